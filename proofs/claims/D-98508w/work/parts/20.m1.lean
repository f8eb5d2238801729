set_option maxRecDepth 100000
def kM (a : Nat) : Kd := ([(5, 0), (100, 7), (100, 5460), (100, 10920), (103, 2), (100, 108), (100, 16), (100, 120), (100, 6), (100, 16), (100, 400), (100, 96), (100, 400), (100, 400), (100, 400), (100, 400), (101, 14), (101, 5), (101, 4), (101, 15), (101, 13), (101, 400), (100, 37), (100, 9), (100, 9), (103, 6), (100, 7), (100, 96), (100, 12)] : List Kd).getD a (99, 0)
def rM : List (Nat × Nat × Nat) := [(0, 2, 1), (0, 3, 2), (0, 4, 3), (0, 5, 4), (0, 6, 5), (0, 7, 6), (0, 9, 7), (0, 10, 8), (0, 11, 9), (0, 13, 10), (0, 23, 11), (0, 25, 12), (0, 26, 13), (0, 28, 14), (0, 29, 15), (0, 32, 16), (0, 33, 17), (0, 34, 18), (0, 36, 19), (0, 37, 20), (0, 38, 21), (0, 42, 22), (0, 43, 23), (0, 44, 24), (0, 48, 25), (0, 51, 26), (0, 58, 27), (0, 64, 28)]
/-- the reference's object (0) and its arrays -/
def SkM (σ : St) : Prop := (∀ a, a < 29 → sk σ a = kM a) ∧ ∀ q ∈ rM, sr σ q.1 q.2.1 = some q.2.2
set_option maxHeartbeats 4000000 in
noncomputable def F_X5_tell_10 (s : St) (x1 : Int32) (z0 : Int32) : Option (Int32 × St) := nam (setI s 0 1 z0) fun s1 => if 0 ≤ x1 then (some (x1, s1)) else (gd (inb (-x1) 7) <| gd (inb (-x1) 7) <| nam (setI s1 1 (-x1).toNatClampNeg ((si s1 1 (-x1).toNatClampNeg) + (1 : Int32))) fun s6 => some (x1, s6))
set_option maxHeartbeats 4000000 in
theorem w_X5_tell_10 {X : CX} {E : EV} {a0 s' : St} {r : Int32} (B : FX X E cX5_tell 2 (some .int) "RoseThrowModel" "tell" (sn a0) (ss a0) 0 0) (hS : ∀ σ, eSk E σ → SkM σ) (s : St) (x1 : Int32) (z0 : Int32) (h : F_X5_tell_10   s x1 z0 = some (r, s')) : J X E (sn a0) (ss a0) 2 (QR X E a0 (some (vi r)) s') s 10 [(0, vr (some 0)), (1, vi x1)] [vi z0, vr (some 0)] := by
  unfold F_X5_tell_10 at h
  obtain ⟨s1, e2, h⟩ := nam_e h
  refine pI5 (k := 1) B e2 rfl (fun z => by rw [(hS _ z).1 0 (by decide)]; rfl) rfl q1518 rfl rfl (fun _ _ _ => rfl) rfl dX5_tell_10 ?_
  refine r_iload_n (j := 1) B dX5_tell_13 rfl rfl ?_
  refine r_if_ge (tgt := 28) B dX5_tell_14 (by decide) (fun cn3 => ?_) (fun cn3 => ?_)
  · have h := ot cn3 h
    refine r_iload_n (j := 1) B dX5_tell_28 rfl rfl ?_
    exact r_iret B dX5_tell_29 h
  · have h := of cn3 h
    refine r_aload_n (j := 0) B dX5_tell_17 rfl rfl ?_
    refine g5 (k := 2) B (vr (some 1)) rfl (fun z => by rw [(hS _ z).1 0 (by decide)]; rfl) rfl q1519 rfl (fun z => by rw [(hS _ z).2 _ (List.mem_of_getElem? (i := 0) rfl)]; rfl) dX5_tell_18 ?_
    refine r_iload_n (j := 1) B dX5_tell_21 rfl rfl ?_
    refine r_ineg B dX5_tell_22 ?_
    refine r_dup2 B dX5_tell_23 rfl rfl ?_
    obtain ⟨hg4, h⟩ := gd_e h
    refine r_iald B rfl (fun z => (hS _ z).1 1 (by decide)) hg4 dX5_tell_24 ?_
    refine r_iconst (v := 1) B dX5_tell_25 (by decide) ?_
    refine r_iadd B dX5_tell_26 ?_
    obtain ⟨hg5, h⟩ := gd_e h
    obtain ⟨s6, e7, h⟩ := nam_e h
    refine r_iast B e7 rfl (fun z => (hS _ z).1 1 (by decide)) hg5 dX5_tell_27 ?_
    refine r_iload_n (j := 1) B dX5_tell_28 rfl rfl ?_
    exact r_iret B dX5_tell_29 h
set_option maxHeartbeats 4000000 in
noncomputable def F_X5_tell (s : St) (p0 : Int32) : Option (Int32 × St) := if 0 ≤ p0 then (F_X5_tell_10 s p0 (0 : Int32)) else (F_X5_tell_10 s p0 p0)
set_option maxHeartbeats 4000000 in
theorem c_X5_tell {l : Launch} {E : EV} (hE : GE E) (hS : ∀ σ, eSk E σ → SkM σ) {s s' : St} {r : Int32} {p0 : Int32} (h : F_X5_tell  s p0 = some (r, s')) : CT l E yX5_tell cX5_tell 2 (some .int) 0 0 [vr (some 0), vi p0] s (some (vi r)) s' := by
  refine CT.start hE (by decide) rfl [(0, vr (some 0)), (1, vi p0)] rfl (fun X hX B => ?_)
  skip
  have B : FX X E cX5_tell 2 (some .int) "RoseThrowModel" "tell" (sn s) (ss s) 0 0 := B
  unfold F_X5_tell at h
  refine r_aload_n (j := 0) B dX5_tell_0 rfl rfl ?_
  refine r_iload_n (j := 1) B dX5_tell_1 rfl rfl ?_
  refine r_if_ge (tgt := 9) B dX5_tell_2 (by decide) (fun cn1 => ?_) (fun cn1 => ?_)
  · have h := ot cn1 h
    refine r_iconst (v := 0) B dX5_tell_9 (by decide) ?_
    exact w_X5_tell_10 B hS s p0 (0 : Int32) h
  · have h := of cn1 h
    refine r_iload_n (j := 1) B dX5_tell_5 rfl rfl ?_
    refine r_goto (tgt := 10) B dX5_tell_6 (by decide) ?_
    exact w_X5_tell_10 B hS s p0 p0 h
set_option maxHeartbeats 4000000 in
theorem cw_X5_tell {X : CX} {fr lo : Nat} (h1 : Nat.ble (0 + 1) fr = true) (h2 : Nat.ble (21 + 0) lo = true) : CW X fr lo yX5_tell cX5_tell 2 (some .int) 0 0 1 := ⟨q1727, q136, ⟨by decide +kernel, by decide +kernel, by decide +kernel⟩, Nat.le_of_ble_eq_true h1, Nat.le_of_ble_eq_true h2⟩

set_option maxHeartbeats 4000000 in
noncomputable def F_X5_setCell (s : St) (p0 : Int32) (p1 : Int32) : Option (Unit × St) := gd (inb (((13 : Int32) + ((5 : Int32) * p0)) + (3 : Int32)) 5460) <| nam (setI s 2 (((13 : Int32) + ((5 : Int32) * p0)) + (3 : Int32)).toNatClampNeg p1) fun s2 => some ((), s2)
set_option maxHeartbeats 4000000 in
theorem c_X5_setCell {l : Launch} {E : EV} (hE : GE E) (hS : ∀ σ, eSk E σ → SkM σ) {s s' : St} {r : Unit} {p0 : Int32} {p1 : Int32} (h : F_X5_setCell  s p0 p1 = some (r, s')) : CT l E yX5_setCell cX5_setCell 3 none 0 0 [vr (some 0), vi p0, vi p1] s none s' := by
  refine CT.start hE (by decide) rfl [(0, vr (some 0)), (1, vi p0), (2, vi p1)] rfl (fun X hX B => ?_)
  skip
  have B : FX X E cX5_setCell 3 none "RoseThrowModel" "setCell" (sn s) (ss s) 0 0 := B
  unfold F_X5_setCell at h
  refine r_aload_n (j := 0) B dX5_setCell_0 rfl rfl ?_
  refine g5 (k := 3) B (vr (some 2)) rfl (fun z => by rw [(hS _ z).1 0 (by decide)]; rfl) rfl q1520 rfl (fun z => by rw [(hS _ z).2 _ (List.mem_of_getElem? (i := 1) rfl)]; rfl) dX5_setCell_1 ?_
  refine r_bipush (v := 13) B dX5_setCell_4 (by decide) ?_
  refine r_iconst (v := 5) B dX5_setCell_6 (by decide) ?_
  refine r_iload_n (j := 1) B dX5_setCell_7 rfl rfl ?_
  refine r_imul B dX5_setCell_8 ?_
  refine r_iadd B dX5_setCell_9 ?_
  refine r_iconst (v := 3) B dX5_setCell_10 (by decide) ?_
  refine r_iadd B dX5_setCell_11 ?_
  refine r_iload_n (j := 2) B dX5_setCell_12 rfl rfl ?_
  obtain ⟨hg1, h⟩ := gd_e h
  obtain ⟨s2, e3, h⟩ := nam_e h
  refine r_iast B e3 rfl (fun z => (hS _ z).1 2 (by decide)) hg1 dX5_setCell_13 ?_
  exact r_vret B dX5_setCell_14 h
set_option maxHeartbeats 4000000 in
theorem cw_X5_setCell {X : CX} {fr lo : Nat} (h1 : Nat.ble (0 + 1) fr = true) (h2 : Nat.ble (22 + 0) lo = true) : CW X fr lo yX5_setCell cX5_setCell 3 none 0 0 2 := ⟨q1735, q136, ⟨by decide +kernel, by decide +kernel, by decide +kernel⟩, Nat.le_of_ble_eq_true h1, Nat.le_of_ble_eq_true h2⟩

set_option maxHeartbeats 4000000 in
noncomputable def F_X5_putBack_2 : Nat → St → Int32 → Int32 → Option (Unit × St)
  | 0 => fun _ _ _ => none
  | n + 1 => fun s x1 x2 => if (6 : Int32) ≤ x2 then (some ((), s)) else (gd (inb (x1 + x2) 108) <| bnd (F_X5_setCell s x2 (si s 5 (x1 + x2).toNatClampNeg)) fun _ s4 => F_X5_putBack_2  n s4 x1 (x2 + (1)))
set_option maxHeartbeats 4000000 in
theorem w_X5_putBack_2 {X : CX} {E : EV} {a0 s' : St} {r : Unit} (B : FX X E cX5_putBack 3 none "RoseThrowModel" "putBack" (sn a0) (ss a0) 1 22) (hS : ∀ σ, eSk E σ → SkM σ) : ∀ (n : Nat) (s : St) (x1 : Int32) (x2 : Int32), F_X5_putBack_2   n s x1 x2 = some (r, s') → J X E (sn a0) (ss a0) 3 (QR X E a0 none s') s 2 [(0, vr (some 0)), (1, vi x1), (2, vi x2)] [] := by
  intro n
  induction n with
  | zero => intro s x1 x2 h; exact absurd (show (none : Option (Unit × St)) = _ from h) (by simp)
  | succ n ih =>
    intro s x1 x2 h
    rw [F_X5_putBack_2] at h
    refine r_iload_n (j := 2) B dX5_putBack_2 rfl rfl ?_
    refine r_bipush (v := 6) B dX5_putBack_3 (by decide) ?_
    refine r_ic_ge (tgt := 27) B dX5_putBack_5 (by decide) (fun cn1 => ?_) (fun cn1 => ?_)
    · have h := ot cn1 h
      exact r_vret B dX5_putBack_27 h
    · have h := of cn1 h
      refine r_aload_n (j := 0) B dX5_putBack_8 rfl rfl ?_
      refine r_iload_n (j := 2) B dX5_putBack_9 rfl rfl ?_
      refine r_aload_n (j := 0) B dX5_putBack_10 rfl rfl ?_
      refine g5 (k := 6) B (vr (some 5)) rfl (fun z => by rw [(hS _ z).1 0 (by decide)]; rfl) rfl q1523 rfl (fun z => by rw [(hS _ z).2 _ (List.mem_of_getElem? (i := 4) rfl)]; rfl) dX5_putBack_11 ?_
      refine r_iload_n (j := 1) B dX5_putBack_14 rfl rfl ?_
      refine r_iload_n (j := 2) B dX5_putBack_15 rfl rfl ?_
      refine r_iadd B dX5_putBack_16 ?_
      obtain ⟨hg2, h⟩ := gd_e h
      refine r_iald B rfl (fun z => (hS _ z).1 5 (by decide)) hg2 dX5_putBack_17 ?_
      obtain ⟨r3, s4, hc5, h⟩ := bnd_e h
      refine r_callV0 (As := [vi x2, vi (si s 5 (x1 + x2).toNatClampNeg)]) (rest := []) B rfl rfl EX.same (c_X5_setCell B.ge hS hc5) (cw_X5_setCell rfl rfl) (fun z => RV.of 5 ((fun z => by rw [(hS _ z).1 0 (by decide)]; rfl) z) rfl rfl qs49) q1732 q1734 rfl dX5_putBack_18 ?_
      refine r_iinc (j := 2) (v := (x2 + (1))) (L' := [(0, vr (some 0)), (1, vi x1), (2, vi (x2 + (1)))]) B dX5_putBack_21 rfl rfl (by decide) rfl rfl rfl ?_
      refine r_goto (tgt := 2) B dX5_putBack_24 (by decide) ?_
      exact ih s4 x1 (x2 + (1)) h
set_option maxHeartbeats 4000000 in
noncomputable def F_X5_putBack (s : St) (p0 : Int32) : Option (Unit × St) := F_X5_putBack_2 FU s p0 (0 : Int32)
set_option maxHeartbeats 4000000 in
theorem c_X5_putBack {l : Launch} {E : EV} (hE : GE E) (hS : ∀ σ, eSk E σ → SkM σ) {s s' : St} {r : Unit} {p0 : Int32} (h : F_X5_putBack  s p0 = some (r, s')) : CT l E yX5_putBack cX5_putBack 3 none 1 22 [vr (some 0), vi p0] s none s' := by
  refine CT.start hE (by decide) rfl [(0, vr (some 0)), (1, vi p0)] rfl (fun X hX B => ?_)
  skip
  have B : FX X E cX5_putBack 3 none "RoseThrowModel" "putBack" (sn s) (ss s) 1 22 := B
  unfold F_X5_putBack at h
  refine r_iconst (v := 0) B dX5_putBack_0 (by decide) ?_
  refine r_istore_n (L' := [(0, vr (some 0)), (1, vi p0), (2, vi (0 : Int32))]) B dX5_putBack_1 rfl (by decide) rfl rfl rfl ?_
  exact w_X5_putBack_2 B hS FU s p0 (0 : Int32) h
set_option maxHeartbeats 4000000 in
theorem cw_X5_putBack {X : CX} {fr lo : Nat} (h1 : Nat.ble (1 + 1) fr = true) (h2 : Nat.ble (22 + 22) lo = true) : CW X fr lo yX5_putBack cX5_putBack 3 none 1 22 1 := ⟨q1731, q136, ⟨by decide +kernel, by decide +kernel, by decide +kernel⟩, Nat.le_of_ble_eq_true h1, Nat.le_of_ble_eq_true h2⟩

set_option maxHeartbeats 4000000 in
noncomputable def F_X5_undo (s : St)  : Option (Int32 × St) := nam (setI s 0 0 (0 : Int32)) fun s1 => if (si s1 0 8) = 0 then (bnd (F_X5_tell s1 (-3 : Int32)) fun r13 s14 => some (r13, s14)) else (nam (setI s1 0 8 ((si s1 0 8) - (1 : Int32))) fun s4 => bnd (F_X5_putBack s4 ((6 : Int32) * (si s4 0 8))) fun _ s7 => gd (inb (si s7 0 8) 16) <| bnd (F_X5_tell s7 (si s7 6 (si s7 0 8).toNatClampNeg)) fun r10 s11 => some (r10, s11))
set_option maxHeartbeats 4000000 in
theorem c_X5_undo {l : Launch} {E : EV} (hE : GE E) (hS : ∀ σ, eSk E σ → SkM σ) {s s' : St} {r : Int32}  (h : F_X5_undo  s  = some (r, s')) : CT l E yX5_undo cX5_undo 1 (some .int) 2 44 [vr (some 0)] s (some (vi r)) s' := by
  refine CT.start hE (by decide) rfl [(0, vr (some 0))] rfl (fun X hX B => ?_)
  skip
  have B : FX X E cX5_undo 1 (some .int) "RoseThrowModel" "undo" (sn s) (ss s) 2 44 := B
  unfold F_X5_undo at h
  refine r_aload_n (j := 0) B dX5_undo_0 rfl rfl ?_
  refine r_iconst (v := 0) B dX5_undo_1 (by decide) ?_
  obtain ⟨s1, e2, h⟩ := nam_e h
  refine pI5 (k := 0) B e2 rfl (fun z => by rw [(hS _ z).1 0 (by decide)]; rfl) rfl q1517 rfl rfl (fun _ _ _ => rfl) rfl dX5_undo_2 ?_
  refine r_aload_n (j := 0) B dX5_undo_5 rfl rfl ?_
  refine g5 (k := 8) B (vi (si s1 0 8)) rfl (fun z => by rw [(hS _ z).1 0 (by decide)]; rfl) rfl q1525 rfl (fun _ => rfl) dX5_undo_6 ?_
  refine r_if_ne (tgt := 19) B dX5_undo_9 (by decide) (fun cn3 => ?_) (fun cn3 => ?_)
  · have h := of cn3 h
    refine r_aload_n (j := 0) B dX5_undo_19 rfl rfl ?_
    refine r_dup B dX5_undo_20 rfl ?_
    refine g5 (k := 8) B (vi (si s1 0 8)) rfl (fun z => by rw [(hS _ z).1 0 (by decide)]; rfl) rfl q1525 rfl (fun _ => rfl) dX5_undo_21 ?_
    refine r_iconst (v := 1) B dX5_undo_24 (by decide) ?_
    refine r_isub B dX5_undo_25 ?_
    obtain ⟨s4, e5, h⟩ := nam_e h
    refine pI5 (k := 8) B e5 rfl (fun z => by rw [(hS _ z).1 0 (by decide)]; rfl) rfl q1525 rfl rfl (fun _ _ _ => rfl) rfl dX5_undo_26 ?_
    refine r_aload_n (j := 0) B dX5_undo_29 rfl rfl ?_
    refine r_bipush (v := 6) B dX5_undo_30 (by decide) ?_
    refine r_aload_n (j := 0) B dX5_undo_32 rfl rfl ?_
    refine g5 (k := 8) B (vi (si s4 0 8)) rfl (fun z => by rw [(hS _ z).1 0 (by decide)]; rfl) rfl q1525 rfl (fun _ => rfl) dX5_undo_33 ?_
    refine r_imul B dX5_undo_36 ?_
    obtain ⟨r6, s7, hc8, h⟩ := bnd_e h
    refine r_callV0 (As := [vi ((6 : Int32) * (si s4 0 8))]) (rest := []) B rfl rfl EX.same (c_X5_putBack B.ge hS hc8) (cw_X5_putBack rfl rfl) (fun z => RV.of 5 ((fun z => by rw [(hS _ z).1 0 (by decide)]; rfl) z) rfl rfl qs48) q1728 q1730 rfl dX5_undo_37 ?_
    refine r_aload_n (j := 0) B dX5_undo_40 rfl rfl ?_
    refine r_aload_n (j := 0) B dX5_undo_41 rfl rfl ?_
    refine g5 (k := 7) B (vr (some 6)) rfl (fun z => by rw [(hS _ z).1 0 (by decide)]; rfl) rfl q1524 rfl (fun z => by rw [(hS _ z).2 _ (List.mem_of_getElem? (i := 5) rfl)]; rfl) dX5_undo_42 ?_
    refine r_aload_n (j := 0) B dX5_undo_45 rfl rfl ?_
    refine g5 (k := 8) B (vi (si s7 0 8)) rfl (fun z => by rw [(hS _ z).1 0 (by decide)]; rfl) rfl q1525 rfl (fun _ => rfl) dX5_undo_46 ?_
    obtain ⟨hg9, h⟩ := gd_e h
    refine r_iald B rfl (fun z => (hS _ z).1 6 (by decide)) hg9 dX5_undo_49 ?_
    obtain ⟨r10, s11, hc12, h⟩ := bnd_e h
    refine r_callVv (As := [vi (si s7 6 (si s7 0 8).toNatClampNeg)]) (rest := []) B rfl rfl EX.same (c_X5_tell B.ge hS hc12) (cw_X5_tell rfl rfl) (fun z => RV.of 5 ((fun z => by rw [(hS _ z).1 0 (by decide)]; rfl) z) rfl rfl qs47) q1724 q1726 rfl dX5_undo_50 ?_
    exact r_iret B dX5_undo_53 h
  · have h := ot cn3 h
    refine r_aload_n (j := 0) B dX5_undo_12 rfl rfl ?_
    refine r_bipush (v := -3) B dX5_undo_13 (by decide) ?_
    obtain ⟨r13, s14, hc15, h⟩ := bnd_e h
    refine r_callVv (As := [vi (-3 : Int32)]) (rest := []) B rfl rfl EX.same (c_X5_tell B.ge hS hc15) (cw_X5_tell rfl rfl) (fun z => RV.of 5 ((fun z => by rw [(hS _ z).1 0 (by decide)]; rfl) z) rfl rfl qs47) q1724 q1726 rfl dX5_undo_15 ?_
    exact r_iret B dX5_undo_18 h
set_option maxHeartbeats 4000000 in
theorem cw_X5_undo {X : CX} {fr lo : Nat} (h1 : Nat.ble (2 + 1) fr = true) (h2 : Nat.ble (20 + 44) lo = true) : CW X fr lo yX5_undo cX5_undo 1 (some .int) 2 44 0 := ⟨q1723, q136, ⟨by decide +kernel, by decide +kernel, by decide +kernel⟩, Nat.le_of_ble_eq_true h1, Nat.le_of_ble_eq_true h2⟩

set_option maxHeartbeats 4000000 in
noncomputable def F_X5_in (s : St) (p0 : Int64) (p1 : Int64) (p2 : Int64) : Option (Int32 × St) := if p0 < p1 then (some ((0 : Int32), s)) else (if p2 < p0 then (some ((0 : Int32), s)) else (some ((1 : Int32), s)))
set_option maxHeartbeats 4000000 in
theorem c_X5_in {l : Launch} {E : EV} (hE : GE E) (hS : ∀ σ, eSk E σ → SkM σ) {s s' : St} {r : Int32} {p0 : Int64} {p1 : Int64} {p2 : Int64} (h : F_X5_in  s p0 p1 p2 = some (r, s')) : CT l E yX5_in cX5_in 6 (some .boolean) 0 0 [vl p0, vl p1, vl p2] s (some (vi r)) s' := by
  refine CT.start hE (by decide) rfl [(0, vl p0), (2, vl p1), (4, vl p2)] rfl (fun X hX B => ?_)
  skip
  have B : FX X E cX5_in 6 (some .boolean) "RoseThrowModel" "in" (sn s) (ss s) 0 0 := B
  unfold F_X5_in at h
  refine r_lload_n (j := 0) B dX5_in_0 rfl rfl ?_
  refine r_lload_n (j := 1) B dX5_in_1 rfl rfl ?_
  refine r_lcmp B dX5_in_2 ?_
  refine r_if_lt (tgt := 17) B dX5_in_3 (by decide) (fun cn1 => ?_) (fun cn1 => ?_)
  · have h := ot (lc_lt.mp cn1) h
    refine r_iconst (v := 0) B dX5_in_17 (by decide) ?_
    exact r_zret B dX5_in_18 (by decide) h
  · have h := of (fun z => cn1 (lc_lt.mpr z)) h
    refine r_lload_n (j := 0) B dX5_in_6 rfl rfl ?_
    refine r_lload (j := 2) B dX5_in_7 rfl ?_
    refine r_lcmp B dX5_in_9 ?_
    refine r_if_gt (tgt := 17) B dX5_in_10 (by decide) (fun cn2 => ?_) (fun cn2 => ?_)
    · have h := ot (lc_gt.mp cn2) h
      refine r_iconst (v := 0) B dX5_in_17 (by decide) ?_
      exact r_zret B dX5_in_18 (by decide) h
    · have h := of (fun z => cn2 (lc_gt.mpr z)) h
      refine r_iconst (v := 1) B dX5_in_13 (by decide) ?_
      refine r_goto (tgt := 18) B dX5_in_14 (by decide) ?_
      exact r_zret B dX5_in_18 (by decide) h
set_option maxHeartbeats 4000000 in
theorem cw_X5_in {X : CX} {fr lo : Nat} (h1 : Nat.ble (0 + 1) fr = true) (h2 : Nat.ble (25 + 0) lo = true) : CW X fr lo yX5_in cX5_in 6 (some .boolean) 0 0 3 := ⟨q1742, q136, ⟨by decide +kernel, by decide +kernel, by decide +kernel⟩, Nat.le_of_ble_eq_true h1, Nat.le_of_ble_eq_true h2⟩

set_option maxHeartbeats 4000000 in
noncomputable def F_X5_image_23 : Nat → St → Int32 → Int32 → Option (Int32 × St)
  | 0 => fun _ _ _ => none
  | n + 1 => fun s x1 x2 => if (5460 : Int32) ≤ x2 then (gd (inb x1 2) <| nam (setI s 4 x1.toNatClampNeg (vp_nar .boolean (1 : Int32))) fun s3 => bnd (F_X5_tell s3 (0 : Int32)) fun r5 s6 => some (r5, s6)) else (gd (inb x2 5460) <| gd (inb (((5460 : Int32) * x1) + x2) 10920) <| nam (setI s 3 (((5460 : Int32) * x1) + x2).toNatClampNeg (si s 2 x2.toNatClampNeg)) fun s10 => F_X5_image_23  n s10 x1 (x2 + (1)))
set_option maxHeartbeats 4000000 in
theorem w_X5_image_23 {X : CX} {E : EV} {a0 s' : St} {r : Int32} (B : FX X E cX5_image 3 (some .int) "RoseThrowModel" "image" (sn a0) (ss a0) 1 25) (hS : ∀ σ, eSk E σ → SkM σ) : ∀ (n : Nat) (s : St) (x1 : Int32) (x2 : Int32), F_X5_image_23   n s x1 x2 = some (r, s') → J X E (sn a0) (ss a0) 3 (QR X E a0 (some (vi r)) s') s 23 [(0, vr (some 0)), (1, vi x1), (2, vi x2)] [] := by
  intro n
  induction n with
  | zero => intro s x1 x2 h; exact absurd (show (none : Option (Int32 × St)) = _ from h) (by simp)
  | succ n ih =>
    intro s x1 x2 h
    rw [F_X5_image_23] at h
    refine r_iload_n (j := 2) B dX5_image_23 rfl rfl ?_
    refine r_sipush (v := 5460) B dX5_image_24 (by decide) ?_
    refine r_ic_ge (tgt := 54) B dX5_image_27 (by decide) (fun cn1 => ?_) (fun cn1 => ?_)
    · have h := ot cn1 h
      refine r_aload_n (j := 0) B dX5_image_54 rfl rfl ?_
      refine g5 (k := 5) B (vr (some 4)) rfl (fun z => by rw [(hS _ z).1 0 (by decide)]; rfl) rfl q1522 rfl (fun z => by rw [(hS _ z).2 _ (List.mem_of_getElem? (i := 3) rfl)]; rfl) dX5_image_55 ?_
      refine r_iload_n (j := 1) B dX5_image_58 rfl rfl ?_
      refine r_iconst (v := 1) B dX5_image_59 (by decide) ?_
      obtain ⟨hg2, h⟩ := gd_e h
      obtain ⟨s3, e4, h⟩ := nam_e h
      refine r_zast B e4 rfl (fun z => (hS _ z).1 4 (by decide)) hg2 dX5_image_60 ?_
      refine r_aload_n (j := 0) B dX5_image_61 rfl rfl ?_
      refine r_iconst (v := 0) B dX5_image_62 (by decide) ?_
      obtain ⟨r5, s6, hc7, h⟩ := bnd_e h
      refine r_callVv (As := [vi (0 : Int32)]) (rest := []) B rfl rfl EX.same (c_X5_tell B.ge hS hc7) (cw_X5_tell rfl rfl) (fun z => RV.of 5 ((fun z => by rw [(hS _ z).1 0 (by decide)]; rfl) z) rfl rfl qs47) q1724 q1726 rfl dX5_image_63 ?_
      exact r_iret B dX5_image_66 h
    · have h := of cn1 h
      refine r_aload_n (j := 0) B dX5_image_30 rfl rfl ?_
      refine g5 (k := 4) B (vr (some 3)) rfl (fun z => by rw [(hS _ z).1 0 (by decide)]; rfl) rfl q1521 rfl (fun z => by rw [(hS _ z).2 _ (List.mem_of_getElem? (i := 2) rfl)]; rfl) dX5_image_31 ?_
      refine r_sipush (v := 5460) B dX5_image_34 (by decide) ?_
      refine r_iload_n (j := 1) B dX5_image_37 rfl rfl ?_
      refine r_imul B dX5_image_38 ?_
      refine r_iload_n (j := 2) B dX5_image_39 rfl rfl ?_
      refine r_iadd B dX5_image_40 ?_
      refine r_aload_n (j := 0) B dX5_image_41 rfl rfl ?_
      refine g5 (k := 3) B (vr (some 2)) rfl (fun z => by rw [(hS _ z).1 0 (by decide)]; rfl) rfl q1520 rfl (fun z => by rw [(hS _ z).2 _ (List.mem_of_getElem? (i := 1) rfl)]; rfl) dX5_image_42 ?_
      refine r_iload_n (j := 2) B dX5_image_45 rfl rfl ?_
      obtain ⟨hg8, h⟩ := gd_e h
      refine r_iald B rfl (fun z => (hS _ z).1 2 (by decide)) hg8 dX5_image_46 ?_
      obtain ⟨hg9, h⟩ := gd_e h
      obtain ⟨s10, e11, h⟩ := nam_e h
      refine r_iast B e11 rfl (fun z => (hS _ z).1 3 (by decide)) hg9 dX5_image_47 ?_
      refine r_iinc (j := 2) (v := (x2 + (1))) (L' := [(0, vr (some 0)), (1, vi x1), (2, vi (x2 + (1)))]) B dX5_image_48 rfl rfl (by decide) rfl rfl rfl ?_
      refine r_goto (tgt := 23) B dX5_image_51 (by decide) ?_
      exact ih s10 x1 (x2 + (1)) h
set_option maxHeartbeats 4000000 in
noncomputable def F_X5_image (s : St) (p0 : Int32) : Option (Int32 × St) := nam (setI s 0 0 (0 : Int32)) fun s1 => bnd (F_X5_in s1 ((p0).toInt64) (0 : Int64) (1 : Int64)) fun r3 s4 => if r3 = 0 then (bnd (F_X5_tell s4 (-1 : Int32)) fun r7 s8 => some (r7, s8)) else (F_X5_image_23 FU s4 p0 (0 : Int32))
set_option maxHeartbeats 4000000 in
theorem c_X5_image {l : Launch} {E : EV} (hE : GE E) (hS : ∀ σ, eSk E σ → SkM σ) {s s' : St} {r : Int32} {p0 : Int32} (h : F_X5_image  s p0 = some (r, s')) : CT l E yX5_image cX5_image 3 (some .int) 1 25 [vr (some 0), vi p0] s (some (vi r)) s' := by
  refine CT.start hE (by decide) rfl [(0, vr (some 0)), (1, vi p0)] rfl (fun X hX B => ?_)
  skip
  have B : FX X E cX5_image 3 (some .int) "RoseThrowModel" "image" (sn s) (ss s) 1 25 := B
  unfold F_X5_image at h
  refine r_aload_n (j := 0) B dX5_image_0 rfl rfl ?_
  refine r_iconst (v := 0) B dX5_image_1 (by decide) ?_
  obtain ⟨s1, e2, h⟩ := nam_e h
  refine pI5 (k := 0) B e2 rfl (fun z => by rw [(hS _ z).1 0 (by decide)]; rfl) rfl q1517 rfl rfl (fun _ _ _ => rfl) rfl dX5_image_2 ?_
  refine r_iload_n (j := 1) B dX5_image_5 rfl rfl ?_
  refine r_i2l B dX5_image_6 ?_
  refine r_lconst (v := 0) B dX5_image_7 (by decide) ?_
  refine r_lconst (v := 1) B dX5_image_8 (by decide) ?_
  obtain ⟨r3, s4, hc5, h⟩ := bnd_e h
  refine r_callSv (As := [vl ((p0).toInt64), vl (0 : Int64), vl (1 : Int64)]) (rest := []) B rfl EX.same (c_X5_in B.ge hS hc5) (cw_X5_in rfl rfl) q1740 q1741 rfl dX5_image_9 ?_
  refine r_if_ne (tgt := 21) B dX5_image_12 (by decide) (fun cn6 => ?_) (fun cn6 => ?_)
  · have h := of cn6 h
    refine r_iconst (v := 0) B dX5_image_21 (by decide) ?_
    refine r_istore_n (L' := [(0, vr (some 0)), (1, vi p0), (2, vi (0 : Int32))]) B dX5_image_22 rfl (by decide) rfl rfl rfl ?_
    exact w_X5_image_23 B hS FU s4 p0 (0 : Int32) h
  · have h := ot cn6 h
    refine r_aload_n (j := 0) B dX5_image_15 rfl rfl ?_
    refine r_iconst (v := -1) B dX5_image_16 (by decide) ?_
    obtain ⟨r7, s8, hc9, h⟩ := bnd_e h
    refine r_callVv (As := [vi (-1 : Int32)]) (rest := []) B rfl rfl EX.same (c_X5_tell B.ge hS hc9) (cw_X5_tell rfl rfl) (fun z => RV.of 5 ((fun z => by rw [(hS _ z).1 0 (by decide)]; rfl) z) rfl rfl qs47) q1724 q1726 rfl dX5_image_17 ?_
    exact r_iret B dX5_image_20 h
set_option maxHeartbeats 4000000 in
theorem cw_X5_image {X : CX} {fr lo : Nat} (h1 : Nat.ble (1 + 1) fr = true) (h2 : Nat.ble (22 + 25) lo = true) : CW X fr lo yX5_image cX5_image 3 (some .int) 1 25 1 := ⟨q1739, q136, ⟨by decide +kernel, by decide +kernel, by decide +kernel⟩, Nat.le_of_ble_eq_true h1, Nat.le_of_ble_eq_true h2⟩

set_option maxHeartbeats 4000000 in
noncomputable def F_X5_back_39 : Nat → St → Int32 → Int32 → Option (Int32 × St)
  | 0 => fun _ _ _ => none
  | n + 1 => fun s x1 x2 => if (5460 : Int32) ≤ x2 then (nam (setI s 0 8 (0 : Int32)) fun s2 => bnd (F_X5_tell s2 (0 : Int32)) fun r4 s5 => some (r4, s5)) else (gd (inb (((5460 : Int32) * x1) + x2) 10920) <| gd (inb x2 5460) <| nam (setI s 2 x2.toNatClampNeg (si s 3 (((5460 : Int32) * x1) + x2).toNatClampNeg)) fun s9 => F_X5_back_39  n s9 x1 (x2 + (1)))
set_option maxHeartbeats 4000000 in
theorem w_X5_back_39 {X : CX} {E : EV} {a0 s' : St} {r : Int32} (B : FX X E cX5_back 3 (some .int) "RoseThrowModel" "back" (sn a0) (ss a0) 1 25) (hS : ∀ σ, eSk E σ → SkM σ) : ∀ (n : Nat) (s : St) (x1 : Int32) (x2 : Int32), F_X5_back_39   n s x1 x2 = some (r, s') → J X E (sn a0) (ss a0) 3 (QR X E a0 (some (vi r)) s') s 39 [(0, vr (some 0)), (1, vi x1), (2, vi x2)] [] := by
  intro n
  induction n with
  | zero => intro s x1 x2 h; exact absurd (show (none : Option (Int32 × St)) = _ from h) (by simp)
  | succ n ih =>
    intro s x1 x2 h
    rw [F_X5_back_39] at h
    refine r_iload_n (j := 2) B dX5_back_39 rfl rfl ?_
    refine r_sipush (v := 5460) B dX5_back_40 (by decide) ?_
    refine r_ic_ge (tgt := 70) B dX5_back_43 (by decide) (fun cn1 => ?_) (fun cn1 => ?_)
    · have h := ot cn1 h
      refine r_aload_n (j := 0) B dX5_back_70 rfl rfl ?_
      refine r_iconst (v := 0) B dX5_back_71 (by decide) ?_
      obtain ⟨s2, e3, h⟩ := nam_e h
      refine pI5 (k := 8) B e3 rfl (fun z => by rw [(hS _ z).1 0 (by decide)]; rfl) rfl q1525 rfl rfl (fun _ _ _ => rfl) rfl dX5_back_72 ?_
      refine r_aload_n (j := 0) B dX5_back_75 rfl rfl ?_
      refine r_iconst (v := 0) B dX5_back_76 (by decide) ?_
      obtain ⟨r4, s5, hc6, h⟩ := bnd_e h
      refine r_callVv (As := [vi (0 : Int32)]) (rest := []) B rfl rfl EX.same (c_X5_tell B.ge hS hc6) (cw_X5_tell rfl rfl) (fun z => RV.of 5 ((fun z => by rw [(hS _ z).1 0 (by decide)]; rfl) z) rfl rfl qs47) q1724 q1726 rfl dX5_back_77 ?_
      exact r_iret B dX5_back_80 h
    · have h := of cn1 h
      refine r_aload_n (j := 0) B dX5_back_46 rfl rfl ?_
      refine g5 (k := 3) B (vr (some 2)) rfl (fun z => by rw [(hS _ z).1 0 (by decide)]; rfl) rfl q1520 rfl (fun z => by rw [(hS _ z).2 _ (List.mem_of_getElem? (i := 1) rfl)]; rfl) dX5_back_47 ?_
      refine r_iload_n (j := 2) B dX5_back_50 rfl rfl ?_
      refine r_aload_n (j := 0) B dX5_back_51 rfl rfl ?_
      refine g5 (k := 4) B (vr (some 3)) rfl (fun z => by rw [(hS _ z).1 0 (by decide)]; rfl) rfl q1521 rfl (fun z => by rw [(hS _ z).2 _ (List.mem_of_getElem? (i := 2) rfl)]; rfl) dX5_back_52 ?_
      refine r_sipush (v := 5460) B dX5_back_55 (by decide) ?_
      refine r_iload_n (j := 1) B dX5_back_58 rfl rfl ?_
      refine r_imul B dX5_back_59 ?_
      refine r_iload_n (j := 2) B dX5_back_60 rfl rfl ?_
      refine r_iadd B dX5_back_61 ?_
      obtain ⟨hg7, h⟩ := gd_e h
      refine r_iald B rfl (fun z => (hS _ z).1 3 (by decide)) hg7 dX5_back_62 ?_
      obtain ⟨hg8, h⟩ := gd_e h
      obtain ⟨s9, e10, h⟩ := nam_e h
      refine r_iast B e10 rfl (fun z => (hS _ z).1 2 (by decide)) hg8 dX5_back_63 ?_
      refine r_iinc (j := 2) (v := (x2 + (1))) (L' := [(0, vr (some 0)), (1, vi x1), (2, vi (x2 + (1)))]) B dX5_back_64 rfl rfl (by decide) rfl rfl rfl ?_
      refine r_goto (tgt := 39) B dX5_back_67 (by decide) ?_
      exact ih s9 x1 (x2 + (1)) h
set_option maxHeartbeats 4000000 in
noncomputable def F_X5_back (s : St) (p0 : Int32) : Option (Int32 × St) := nam (setI s 0 0 (0 : Int32)) fun s1 => bnd (F_X5_in s1 ((p0).toInt64) (0 : Int64) (1 : Int64)) fun r3 s4 => if r3 = 0 then (bnd (F_X5_tell s4 (-1 : Int32)) fun r12 s13 => some (r12, s13)) else (gd (inb p0 2) <| if (si s4 4 p0.toNatClampNeg) = 0 then (bnd (F_X5_tell s4 (-2 : Int32)) fun r9 s10 => some (r9, s10)) else (F_X5_back_39 FU s4 p0 (0 : Int32)))
set_option maxHeartbeats 4000000 in
theorem c_X5_back {l : Launch} {E : EV} (hE : GE E) (hS : ∀ σ, eSk E σ → SkM σ) {s s' : St} {r : Int32} {p0 : Int32} (h : F_X5_back  s p0 = some (r, s')) : CT l E yX5_back cX5_back 3 (some .int) 1 25 [vr (some 0), vi p0] s (some (vi r)) s' := by
  refine CT.start hE (by decide) rfl [(0, vr (some 0)), (1, vi p0)] rfl (fun X hX B => ?_)
  skip
  have B : FX X E cX5_back 3 (some .int) "RoseThrowModel" "back" (sn s) (ss s) 1 25 := B
  unfold F_X5_back at h
  refine r_aload_n (j := 0) B dX5_back_0 rfl rfl ?_
  refine r_iconst (v := 0) B dX5_back_1 (by decide) ?_
  obtain ⟨s1, e2, h⟩ := nam_e h
  refine pI5 (k := 0) B e2 rfl (fun z => by rw [(hS _ z).1 0 (by decide)]; rfl) rfl q1517 rfl rfl (fun _ _ _ => rfl) rfl dX5_back_2 ?_
  refine r_iload_n (j := 1) B dX5_back_5 rfl rfl ?_
  refine r_i2l B dX5_back_6 ?_
  refine r_lconst (v := 0) B dX5_back_7 (by decide) ?_
  refine r_lconst (v := 1) B dX5_back_8 (by decide) ?_
  obtain ⟨r3, s4, hc5, h⟩ := bnd_e h
  refine r_callSv (As := [vl ((p0).toInt64), vl (0 : Int64), vl (1 : Int64)]) (rest := []) B rfl EX.same (c_X5_in B.ge hS hc5) (cw_X5_in rfl rfl) q1740 q1741 rfl dX5_back_9 ?_
  refine r_if_ne (tgt := 21) B dX5_back_12 (by decide) (fun cn6 => ?_) (fun cn6 => ?_)
  · have h := of cn6 h
    refine r_aload_n (j := 0) B dX5_back_21 rfl rfl ?_
    refine g5 (k := 5) B (vr (some 4)) rfl (fun z => by rw [(hS _ z).1 0 (by decide)]; rfl) rfl q1522 rfl (fun z => by rw [(hS _ z).2 _ (List.mem_of_getElem? (i := 3) rfl)]; rfl) dX5_back_22 ?_
    refine r_iload_n (j := 1) B dX5_back_25 rfl rfl ?_
    obtain ⟨hg7, h⟩ := gd_e h
    refine r_zald B rfl (fun z => (hS _ z).1 4 (by decide)) hg7 dX5_back_26 ?_
    refine r_if_ne (tgt := 37) B dX5_back_27 (by decide) (fun cn8 => ?_) (fun cn8 => ?_)
    · have h := of cn8 h
      refine r_iconst (v := 0) B dX5_back_37 (by decide) ?_
      refine r_istore_n (L' := [(0, vr (some 0)), (1, vi p0), (2, vi (0 : Int32))]) B dX5_back_38 rfl (by decide) rfl rfl rfl ?_
      exact w_X5_back_39 B hS FU s4 p0 (0 : Int32) h
    · have h := ot cn8 h
      refine r_aload_n (j := 0) B dX5_back_30 rfl rfl ?_
      refine r_bipush (v := -2) B dX5_back_31 (by decide) ?_
      obtain ⟨r9, s10, hc11, h⟩ := bnd_e h
      refine r_callVv (As := [vi (-2 : Int32)]) (rest := []) B rfl rfl EX.same (c_X5_tell B.ge hS hc11) (cw_X5_tell rfl rfl) (fun z => RV.of 5 ((fun z => by rw [(hS _ z).1 0 (by decide)]; rfl) z) rfl rfl qs47) q1724 q1726 rfl dX5_back_33 ?_
      exact r_iret B dX5_back_36 h
  · have h := ot cn6 h
    refine r_aload_n (j := 0) B dX5_back_15 rfl rfl ?_
    refine r_iconst (v := -1) B dX5_back_16 (by decide) ?_
    obtain ⟨r12, s13, hc14, h⟩ := bnd_e h
    refine r_callVv (As := [vi (-1 : Int32)]) (rest := []) B rfl rfl EX.same (c_X5_tell B.ge hS hc14) (cw_X5_tell rfl rfl) (fun z => RV.of 5 ((fun z => by rw [(hS _ z).1 0 (by decide)]; rfl) z) rfl rfl qs47) q1724 q1726 rfl dX5_back_17 ?_
    exact r_iret B dX5_back_20 h
set_option maxHeartbeats 4000000 in
theorem cw_X5_back {X : CX} {fr lo : Nat} (h1 : Nat.ble (1 + 1) fr = true) (h2 : Nat.ble (22 + 25) lo = true) : CW X fr lo yX5_back cX5_back 3 (some .int) 1 25 1 := ⟨q1746, q136, ⟨by decide +kernel, by decide +kernel, by decide +kernel⟩, Nat.le_of_ble_eq_true h1, Nat.le_of_ble_eq_true h2⟩

set_option maxHeartbeats 4000000 in
noncomputable def F_X5_isCell (s : St) (p0 : Int32) : Option (Int32 × St) := bnd (F_X5_in s ((p0).toInt64) (0 : Int64) (35 : Int64)) fun r1 s2 => gd (fits .boolean (.int r1)) <| some (r1, s2)
set_option maxHeartbeats 4000000 in
theorem c_X5_isCell {l : Launch} {E : EV} (hE : GE E) (hS : ∀ σ, eSk E σ → SkM σ) {s s' : St} {r : Int32} {p0 : Int32} (h : F_X5_isCell  s p0 = some (r, s')) : CT l E yX5_isCell cX5_isCell 1 (some .boolean) 1 25 [vi p0] s (some (vi r)) s' := by
  refine CT.start hE (by decide) rfl [(0, vi p0)] rfl (fun X hX B => ?_)
  skip
  have B : FX X E cX5_isCell 1 (some .boolean) "RoseThrowModel" "isCell" (sn s) (ss s) 1 25 := B
  unfold F_X5_isCell at h
  refine r_iload_n (j := 0) B dX5_isCell_0 rfl rfl ?_
  refine r_i2l B dX5_isCell_1 ?_
  refine r_lconst (v := 0) B dX5_isCell_2 (by decide) ?_
  refine r_ldc2 B dX5_isCell_3 q1758 ?_
  obtain ⟨r1, s2, hc3, h⟩ := bnd_e h
  refine r_callSv (As := [vl ((p0).toInt64), vl (0 : Int64), vl (35 : Int64)]) (rest := []) B rfl EX.same (c_X5_in B.ge hS hc3) (cw_X5_in rfl rfl) q1740 q1741 rfl dX5_isCell_6 ?_
  obtain ⟨hg4, h⟩ := gd_e h
  exact r_zret B dX5_isCell_9 hg4 h
set_option maxHeartbeats 4000000 in
theorem cw_X5_isCell {X : CX} {fr lo : Nat} (h1 : Nat.ble (1 + 1) fr = true) (h2 : Nat.ble (20 + 25) lo = true) : CW X fr lo yX5_isCell cX5_isCell 1 (some .boolean) 1 25 1 := ⟨q1757, q136, ⟨by decide +kernel, by decide +kernel, by decide +kernel⟩, Nat.le_of_ble_eq_true h1, Nat.le_of_ble_eq_true h2⟩

set_option maxHeartbeats 4000000 in
noncomputable def F_X5_ofCatcher (s : St) (p0 : Int32) (p1 : Int32) : Option (Int32 × St) := gd (inb (((13 : Int32) + ((5 : Int32) * p0)) + p1) 5460) <| some ((si s 2 (((13 : Int32) + ((5 : Int32) * p0)) + p1).toNatClampNeg), s)
set_option maxHeartbeats 4000000 in
theorem c_X5_ofCatcher {l : Launch} {E : EV} (hE : GE E) (hS : ∀ σ, eSk E σ → SkM σ) {s s' : St} {r : Int32} {p0 : Int32} {p1 : Int32} (h : F_X5_ofCatcher  s p0 p1 = some (r, s')) : CT l E yX5_ofCatcher cX5_ofCatcher 3 (some .int) 0 0 [vr (some 0), vi p0, vi p1] s (some (vi r)) s' := by
  refine CT.start hE (by decide) rfl [(0, vr (some 0)), (1, vi p0), (2, vi p1)] rfl (fun X hX B => ?_)
  skip
  have B : FX X E cX5_ofCatcher 3 (some .int) "RoseThrowModel" "ofCatcher" (sn s) (ss s) 0 0 := B
  unfold F_X5_ofCatcher at h
  refine r_aload_n (j := 0) B dX5_ofCatcher_0 rfl rfl ?_
  refine g5 (k := 3) B (vr (some 2)) rfl (fun z => by rw [(hS _ z).1 0 (by decide)]; rfl) rfl q1520 rfl (fun z => by rw [(hS _ z).2 _ (List.mem_of_getElem? (i := 1) rfl)]; rfl) dX5_ofCatcher_1 ?_
  refine r_bipush (v := 13) B dX5_ofCatcher_4 (by decide) ?_
  refine r_iconst (v := 5) B dX5_ofCatcher_6 (by decide) ?_
  refine r_iload_n (j := 1) B dX5_ofCatcher_7 rfl rfl ?_
  refine r_imul B dX5_ofCatcher_8 ?_
  refine r_iadd B dX5_ofCatcher_9 ?_
  refine r_iload_n (j := 2) B dX5_ofCatcher_10 rfl rfl ?_
  refine r_iadd B dX5_ofCatcher_11 ?_
  obtain ⟨hg1, h⟩ := gd_e h
  refine r_iald B rfl (fun z => (hS _ z).1 2 (by decide)) hg1 dX5_ofCatcher_12 ?_
  exact r_iret B dX5_ofCatcher_13 h
set_option maxHeartbeats 4000000 in
theorem cw_X5_ofCatcher {X : CX} {fr lo : Nat} (h1 : Nat.ble (0 + 1) fr = true) (h2 : Nat.ble (22 + 0) lo = true) : CW X fr lo yX5_ofCatcher cX5_ofCatcher 3 (some .int) 0 0 2 := ⟨q1769, q136, ⟨by decide +kernel, by decide +kernel, by decide +kernel⟩, Nat.le_of_ble_eq_true h1, Nat.le_of_ble_eq_true h2⟩

set_option maxHeartbeats 4000000 in
noncomputable def F_X5_isFree_2 : Nat → St → Int32 → Int32 → Option (Int32 × St)
  | 0 => fun _ _ _ => none
  | n + 1 => fun s x1 x2 => gd (inb (0 : Int32) 5460) <| if (si s 2 (0 : Int32).toNatClampNeg) ≤ x2 then (some ((1 : Int32), s)) else (bnd (F_X5_ofCatcher s x2 (3 : Int32)) fun r3 s4 => if r3 = x1 then (some ((0 : Int32), s4)) else (F_X5_isFree_2  n s4 x1 (x2 + (1))))
set_option maxHeartbeats 4000000 in
theorem w_X5_isFree_2 {X : CX} {E : EV} {a0 s' : St} {r : Int32} (B : FX X E cX5_isFree 3 (some .boolean) "RoseThrowModel" "isFree" (sn a0) (ss a0) 1 22) (hS : ∀ σ, eSk E σ → SkM σ) : ∀ (n : Nat) (s : St) (x1 : Int32) (x2 : Int32), F_X5_isFree_2   n s x1 x2 = some (r, s') → J X E (sn a0) (ss a0) 3 (QR X E a0 (some (vi r)) s') s 2 [(0, vr (some 0)), (1, vi x1), (2, vi x2)] [] := by
  intro n
  induction n with
  | zero => intro s x1 x2 h; exact absurd (show (none : Option (Int32 × St)) = _ from h) (by simp)
  | succ n ih =>
    intro s x1 x2 h
    rw [F_X5_isFree_2] at h
    refine r_iload_n (j := 2) B dX5_isFree_2 rfl rfl ?_
    refine r_aload_n (j := 0) B dX5_isFree_3 rfl rfl ?_
    refine g5 (k := 3) B (vr (some 2)) rfl (fun z => by rw [(hS _ z).1 0 (by decide)]; rfl) rfl q1520 rfl (fun z => by rw [(hS _ z).2 _ (List.mem_of_getElem? (i := 1) rfl)]; rfl) dX5_isFree_4 ?_
    refine r_iconst (v := 0) B dX5_isFree_7 (by decide) ?_
    obtain ⟨hg1, h⟩ := gd_e h
    refine r_iald B rfl (fun z => (hS _ z).1 2 (by decide)) hg1 dX5_isFree_8 ?_
    refine r_ic_ge (tgt := 30) B dX5_isFree_9 (by decide) (fun cn2 => ?_) (fun cn2 => ?_)
    · have h := ot cn2 h
      refine r_iconst (v := 1) B dX5_isFree_30 (by decide) ?_
      exact r_zret B dX5_isFree_31 (by decide) h
    · have h := of cn2 h
      refine r_aload_n (j := 0) B dX5_isFree_12 rfl rfl ?_
      refine r_iload_n (j := 2) B dX5_isFree_13 rfl rfl ?_
      refine r_iconst (v := 3) B dX5_isFree_14 (by decide) ?_
      obtain ⟨r3, s4, hc5, h⟩ := bnd_e h
      refine r_callVv (As := [vi x2, vi (3 : Int32)]) (rest := []) B rfl rfl EX.same (c_X5_ofCatcher B.ge hS hc5) (cw_X5_ofCatcher rfl rfl) (fun z => RV.of 5 ((fun z => by rw [(hS _ z).1 0 (by decide)]; rfl) z) rfl rfl qs52) q1766 q1768 rfl dX5_isFree_15 ?_
      refine r_iload_n (j := 1) B dX5_isFree_18 rfl rfl ?_
      refine r_ic_ne (tgt := 24) B dX5_isFree_19 (by decide) (fun cn6 => ?_) (fun cn6 => ?_)
      · have h := of cn6 h
        refine r_iinc (j := 2) (v := (x2 + (1))) (L' := [(0, vr (some 0)), (1, vi x1), (2, vi (x2 + (1)))]) B dX5_isFree_24 rfl rfl (by decide) rfl rfl rfl ?_
        refine r_goto (tgt := 2) B dX5_isFree_27 (by decide) ?_
        exact ih s4 x1 (x2 + (1)) h
      · have h := ot cn6 h
        refine r_iconst (v := 0) B dX5_isFree_22 (by decide) ?_
        exact r_zret B dX5_isFree_23 (by decide) h
set_option maxHeartbeats 4000000 in
noncomputable def F_X5_isFree (s : St) (p0 : Int32) : Option (Int32 × St) := F_X5_isFree_2 FU s p0 (0 : Int32)
set_option maxHeartbeats 4000000 in
theorem c_X5_isFree {l : Launch} {E : EV} (hE : GE E) (hS : ∀ σ, eSk E σ → SkM σ) {s s' : St} {r : Int32} {p0 : Int32} (h : F_X5_isFree  s p0 = some (r, s')) : CT l E yX5_isFree cX5_isFree 3 (some .boolean) 1 22 [vr (some 0), vi p0] s (some (vi r)) s' := by
  refine CT.start hE (by decide) rfl [(0, vr (some 0)), (1, vi p0)] rfl (fun X hX B => ?_)
  skip
  have B : FX X E cX5_isFree 3 (some .boolean) "RoseThrowModel" "isFree" (sn s) (ss s) 1 22 := B
  unfold F_X5_isFree at h
  refine r_iconst (v := 0) B dX5_isFree_0 (by decide) ?_
  refine r_istore_n (L' := [(0, vr (some 0)), (1, vi p0), (2, vi (0 : Int32))]) B dX5_isFree_1 rfl (by decide) rfl rfl rfl ?_
  exact w_X5_isFree_2 B hS FU s p0 (0 : Int32) h
set_option maxHeartbeats 4000000 in
theorem cw_X5_isFree {X : CX} {fr lo : Nat} (h1 : Nat.ble (1 + 1) fr = true) (h2 : Nat.ble (22 + 22) lo = true) : CW X fr lo yX5_isFree cX5_isFree 3 (some .boolean) 1 22 1 := ⟨q1765, q136, ⟨by decide +kernel, by decide +kernel, by decide +kernel⟩, Nat.le_of_ble_eq_true h1, Nat.le_of_ble_eq_true h2⟩

set_option maxHeartbeats 4000000 in
noncomputable def F_X5_term (s : St) (p0 : Int32) : Option (Int32 × St) := gd (inb ((4 : Int32) + p0) 5460) <| some ((si s 2 ((4 : Int32) + p0).toNatClampNeg), s)
set_option maxHeartbeats 4000000 in
theorem c_X5_term {l : Launch} {E : EV} (hE : GE E) (hS : ∀ σ, eSk E σ → SkM σ) {s s' : St} {r : Int32} {p0 : Int32} (h : F_X5_term  s p0 = some (r, s')) : CT l E yX5_term cX5_term 2 (some .int) 0 0 [vr (some 0), vi p0] s (some (vi r)) s' := by
  refine CT.start hE (by decide) rfl [(0, vr (some 0)), (1, vi p0)] rfl (fun X hX B => ?_)
  skip
  have B : FX X E cX5_term 2 (some .int) "RoseThrowModel" "term" (sn s) (ss s) 0 0 := B
  unfold F_X5_term at h
  refine r_aload_n (j := 0) B dX5_term_0 rfl rfl ?_
  refine g5 (k := 3) B (vr (some 2)) rfl (fun z => by rw [(hS _ z).1 0 (by decide)]; rfl) rfl q1520 rfl (fun z => by rw [(hS _ z).2 _ (List.mem_of_getElem? (i := 1) rfl)]; rfl) dX5_term_1 ?_
  refine r_iconst (v := 4) B dX5_term_4 (by decide) ?_
  refine r_iload_n (j := 1) B dX5_term_5 rfl rfl ?_
  refine r_iadd B dX5_term_6 ?_
  obtain ⟨hg1, h⟩ := gd_e h
  refine r_iald B rfl (fun z => (hS _ z).1 2 (by decide)) hg1 dX5_term_7 ?_
  exact r_iret B dX5_term_8 h
set_option maxHeartbeats 4000000 in
theorem cw_X5_term {X : CX} {fr lo : Nat} (h1 : Nat.ble (0 + 1) fr = true) (h2 : Nat.ble (21 + 0) lo = true) : CW X fr lo yX5_term cX5_term 2 (some .int) 0 0 1 := ⟨q1786, q136, ⟨by decide +kernel, by decide +kernel, by decide +kernel⟩, Nat.le_of_ble_eq_true h1, Nat.le_of_ble_eq_true h2⟩

set_option maxHeartbeats 4000000 in
noncomputable def F_X5_clearSet_2 : Nat → St → Int32 → Option (Unit × St)
  | 0 => fun _ _ => none
  | n + 1 => fun s x1 => if (14 : Int32) ≤ x1 then (bnd (F_X5_term s (8 : Int32)) fun r2 s3 => gd (inb (14 : Int32) 15) <| nam (setL s3 19 (14 : Int32).toNatClampNeg ((r2).toInt64)) fun s6 => some ((), s6)) else (gd (inb x1 15) <| nam (setL s 19 x1.toNatClampNeg (-1 : Int64)) fun s9 => F_X5_clearSet_2  n s9 (x1 + (1)))
set_option maxHeartbeats 4000000 in
theorem w_X5_clearSet_2 {X : CX} {E : EV} {a0 s' : St} {r : Unit} (B : FX X E cX5_clearSet 2 none "RoseThrowModel" "clearSet" (sn a0) (ss a0) 1 21) (hS : ∀ σ, eSk E σ → SkM σ) : ∀ (n : Nat) (s : St) (x1 : Int32), F_X5_clearSet_2   n s x1 = some (r, s') → J X E (sn a0) (ss a0) 2 (QR X E a0 none s') s 2 [(0, vr (some 0)), (1, vi x1)] [] := by
  intro n
  induction n with
  | zero => intro s x1 h; exact absurd (show (none : Option (Unit × St)) = _ from h) (by simp)
  | succ n ih =>
    intro s x1 h
    rw [F_X5_clearSet_2] at h
    refine r_iload_n (j := 1) B dX5_clearSet_2 rfl rfl ?_
    refine r_bipush (v := 14) B dX5_clearSet_3 (by decide) ?_
    refine r_ic_ge (tgt := 23) B dX5_clearSet_5 (by decide) (fun cn1 => ?_) (fun cn1 => ?_)
    · have h := ot cn1 h
      refine r_aload_n (j := 0) B dX5_clearSet_23 rfl rfl ?_
      refine g5 (k := 36) B (vr (some 19)) rfl (fun z => by rw [(hS _ z).1 0 (by decide)]; rfl) rfl q1553 rfl (fun z => by rw [(hS _ z).2 _ (List.mem_of_getElem? (i := 18) rfl)]; rfl) dX5_clearSet_24 ?_
      refine r_bipush (v := 14) B dX5_clearSet_27 (by decide) ?_
      refine r_aload_n (j := 0) B dX5_clearSet_29 rfl rfl ?_
      refine r_bipush (v := 8) B dX5_clearSet_30 (by decide) ?_
      obtain ⟨r2, s3, hc4, h⟩ := bnd_e h
      refine r_callVv (As := [vi (8 : Int32)]) (rest := [vi (14 : Int32), vr (some 19)]) B rfl rfl EX.same (c_X5_term B.ge hS hc4) (cw_X5_term rfl rfl) (fun z => RV.of 5 ((fun z => by rw [(hS _ z).1 0 (by decide)]; rfl) z) rfl rfl qs56) q1783 q1785 rfl dX5_clearSet_32 ?_
      refine r_i2l B dX5_clearSet_35 ?_
      obtain ⟨hg5, h⟩ := gd_e h
      obtain ⟨s6, e7, h⟩ := nam_e h
      refine r_last B e7 rfl (fun z => (hS _ z).1 19 (by decide)) hg5 dX5_clearSet_36 ?_
      exact r_vret B dX5_clearSet_37 h
    · have h := of cn1 h
      refine r_aload_n (j := 0) B dX5_clearSet_8 rfl rfl ?_
      refine g5 (k := 36) B (vr (some 19)) rfl (fun z => by rw [(hS _ z).1 0 (by decide)]; rfl) rfl q1553 rfl (fun z => by rw [(hS _ z).2 _ (List.mem_of_getElem? (i := 18) rfl)]; rfl) dX5_clearSet_9 ?_
      refine r_iload_n (j := 1) B dX5_clearSet_12 rfl rfl ?_
      refine r_ldc2 B dX5_clearSet_13 q1782 ?_
      obtain ⟨hg8, h⟩ := gd_e h
      obtain ⟨s9, e10, h⟩ := nam_e h
      refine r_last B e10 rfl (fun z => (hS _ z).1 19 (by decide)) hg8 dX5_clearSet_16 ?_
      refine r_iinc (j := 1) (v := (x1 + (1))) (L' := [(0, vr (some 0)), (1, vi (x1 + (1)))]) B dX5_clearSet_17 rfl rfl (by decide) rfl rfl rfl ?_
      refine r_goto (tgt := 2) B dX5_clearSet_20 (by decide) ?_
      exact ih s9 (x1 + (1)) h
set_option maxHeartbeats 4000000 in
noncomputable def F_X5_clearSet (s : St)  : Option (Unit × St) := F_X5_clearSet_2 FU s (1 : Int32)
set_option maxHeartbeats 4000000 in
theorem c_X5_clearSet {l : Launch} {E : EV} (hE : GE E) (hS : ∀ σ, eSk E σ → SkM σ) {s s' : St} {r : Unit}  (h : F_X5_clearSet  s  = some (r, s')) : CT l E yX5_clearSet cX5_clearSet 2 none 1 21 [vr (some 0)] s none s' := by
  refine CT.start hE (by decide) rfl [(0, vr (some 0))] rfl (fun X hX B => ?_)
  skip
  have B : FX X E cX5_clearSet 2 none "RoseThrowModel" "clearSet" (sn s) (ss s) 1 21 := B
  unfold F_X5_clearSet at h
  refine r_iconst (v := 1) B dX5_clearSet_0 (by decide) ?_
  refine r_istore_n (L' := [(0, vr (some 0)), (1, vi (1 : Int32))]) B dX5_clearSet_1 rfl (by decide) rfl rfl rfl ?_
  exact w_X5_clearSet_2 B hS FU s (1 : Int32) h
set_option maxHeartbeats 4000000 in
theorem cw_X5_clearSet {X : CX} {fr lo : Nat} (h1 : Nat.ble (1 + 1) fr = true) (h2 : Nat.ble (21 + 21) lo = true) : CW X fr lo yX5_clearSet cX5_clearSet 2 none 1 21 0 := ⟨q1781, q136, ⟨by decide +kernel, by decide +kernel, by decide +kernel⟩, Nat.le_of_ble_eq_true h1, Nat.le_of_ble_eq_true h2⟩

set_option maxHeartbeats 4000000 in
noncomputable def F_X5_setCatcher (s : St) (p0 : Int32) (p1 : Int32) (p2 : Int32) : Option (Unit × St) := bnd (F_X5_clearSet s) fun _ s2 => gd (inb (7 : Int32) 15) <| nam (setL s2 19 (7 : Int32).toNatClampNeg ((p0).toInt64)) fun s5 => gd (inb (8 : Int32) 15) <| nam (setL s5 19 (8 : Int32).toNatClampNeg ((p1).toInt64)) fun s8 => gd (inb (9 : Int32) 15) <| nam (setL s8 19 (9 : Int32).toNatClampNeg ((p2).toInt64)) fun s11 => some ((), s11)
set_option maxHeartbeats 4000000 in
theorem c_X5_setCatcher {l : Launch} {E : EV} (hE : GE E) (hS : ∀ σ, eSk E σ → SkM σ) {s s' : St} {r : Unit} {p0 : Int32} {p1 : Int32} {p2 : Int32} (h : F_X5_setCatcher  s p0 p1 p2 = some (r, s')) : CT l E yX5_setCatcher cX5_setCatcher 4 none 2 42 [vr (some 0), vi p0, vi p1, vi p2] s none s' := by
  refine CT.start hE (by decide) rfl [(0, vr (some 0)), (1, vi p0), (2, vi p1), (3, vi p2)] rfl (fun X hX B => ?_)
  skip
  have B : FX X E cX5_setCatcher 4 none "RoseThrowModel" "setCatcher" (sn s) (ss s) 2 42 := B
  unfold F_X5_setCatcher at h
  refine r_aload_n (j := 0) B dX5_setCatcher_0 rfl rfl ?_
  obtain ⟨r1, s2, hc3, h⟩ := bnd_e h
  refine r_callV0 (As := []) (rest := []) B rfl rfl EX.same (c_X5_clearSet B.ge hS hc3) (cw_X5_clearSet rfl rfl) (fun z => RV.of 5 ((fun z => by rw [(hS _ z).1 0 (by decide)]; rfl) z) rfl rfl qs55) q1778 q1780 rfl dX5_setCatcher_1 ?_
  refine r_aload_n (j := 0) B dX5_setCatcher_4 rfl rfl ?_
  refine g5 (k := 36) B (vr (some 19)) rfl (fun z => by rw [(hS _ z).1 0 (by decide)]; rfl) rfl q1553 rfl (fun z => by rw [(hS _ z).2 _ (List.mem_of_getElem? (i := 18) rfl)]; rfl) dX5_setCatcher_5 ?_
  refine r_bipush (v := 7) B dX5_setCatcher_8 (by decide) ?_
  refine r_iload_n (j := 1) B dX5_setCatcher_10 rfl rfl ?_
  refine r_i2l B dX5_setCatcher_11 ?_
  obtain ⟨hg4, h⟩ := gd_e h
  obtain ⟨s5, e6, h⟩ := nam_e h
  refine r_last B e6 rfl (fun z => (hS _ z).1 19 (by decide)) hg4 dX5_setCatcher_12 ?_
  refine r_aload_n (j := 0) B dX5_setCatcher_13 rfl rfl ?_
  refine g5 (k := 36) B (vr (some 19)) rfl (fun z => by rw [(hS _ z).1 0 (by decide)]; rfl) rfl q1553 rfl (fun z => by rw [(hS _ z).2 _ (List.mem_of_getElem? (i := 18) rfl)]; rfl) dX5_setCatcher_14 ?_
  refine r_bipush (v := 8) B dX5_setCatcher_17 (by decide) ?_
  refine r_iload_n (j := 2) B dX5_setCatcher_19 rfl rfl ?_
  refine r_i2l B dX5_setCatcher_20 ?_
  obtain ⟨hg7, h⟩ := gd_e h
  obtain ⟨s8, e9, h⟩ := nam_e h
  refine r_last B e9 rfl (fun z => (hS _ z).1 19 (by decide)) hg7 dX5_setCatcher_21 ?_
  refine r_aload_n (j := 0) B dX5_setCatcher_22 rfl rfl ?_
  refine g5 (k := 36) B (vr (some 19)) rfl (fun z => by rw [(hS _ z).1 0 (by decide)]; rfl) rfl q1553 rfl (fun z => by rw [(hS _ z).2 _ (List.mem_of_getElem? (i := 18) rfl)]; rfl) dX5_setCatcher_23 ?_
  refine r_bipush (v := 9) B dX5_setCatcher_26 (by decide) ?_
  refine r_iload_n (j := 3) B dX5_setCatcher_28 rfl rfl ?_
  refine r_i2l B dX5_setCatcher_29 ?_
  obtain ⟨hg10, h⟩ := gd_e h
  obtain ⟨s11, e12, h⟩ := nam_e h
  refine r_last B e12 rfl (fun z => (hS _ z).1 19 (by decide)) hg10 dX5_setCatcher_30 ?_
  exact r_vret B dX5_setCatcher_31 h
set_option maxHeartbeats 4000000 in
theorem cw_X5_setCatcher {X : CX} {fr lo : Nat} (h1 : Nat.ble (2 + 1) fr = true) (h2 : Nat.ble (23 + 42) lo = true) : CW X fr lo yX5_setCatcher cX5_setCatcher 4 none 2 42 3 := ⟨q1777, q136, ⟨by decide +kernel, by decide +kernel, by decide +kernel⟩, Nat.le_of_ble_eq_true h1, Nat.le_of_ble_eq_true h2⟩

set_option maxHeartbeats 4000000 in
noncomputable def F_X5_isCatcher (s : St) (p0 : Int32) : Option (Int32 × St) := gd (inb (0 : Int32) 5460) <| bnd (F_X5_in s ((p0).toInt64) (0 : Int64) ((((si s 2 (0 : Int32).toNatClampNeg)).toInt64) - (1 : Int64))) fun r2 s3 => gd (fits .boolean (.int r2)) <| some (r2, s3)
set_option maxHeartbeats 4000000 in
theorem c_X5_isCatcher {l : Launch} {E : EV} (hE : GE E) (hS : ∀ σ, eSk E σ → SkM σ) {s s' : St} {r : Int32} {p0 : Int32} (h : F_X5_isCatcher  s p0 = some (r, s')) : CT l E yX5_isCatcher cX5_isCatcher 2 (some .boolean) 1 25 [vr (some 0), vi p0] s (some (vi r)) s' := by
  refine CT.start hE (by decide) rfl [(0, vr (some 0)), (1, vi p0)] rfl (fun X hX B => ?_)
  skip
  have B : FX X E cX5_isCatcher 2 (some .boolean) "RoseThrowModel" "isCatcher" (sn s) (ss s) 1 25 := B
  unfold F_X5_isCatcher at h
  refine r_iload_n (j := 1) B dX5_isCatcher_0 rfl rfl ?_
  refine r_i2l B dX5_isCatcher_1 ?_
  refine r_lconst (v := 0) B dX5_isCatcher_2 (by decide) ?_
  refine r_aload_n (j := 0) B dX5_isCatcher_3 rfl rfl ?_
  refine g5 (k := 3) B (vr (some 2)) rfl (fun z => by rw [(hS _ z).1 0 (by decide)]; rfl) rfl q1520 rfl (fun z => by rw [(hS _ z).2 _ (List.mem_of_getElem? (i := 1) rfl)]; rfl) dX5_isCatcher_4 ?_
  refine r_iconst (v := 0) B dX5_isCatcher_7 (by decide) ?_
  obtain ⟨hg1, h⟩ := gd_e h
  refine r_iald B rfl (fun z => (hS _ z).1 2 (by decide)) hg1 dX5_isCatcher_8 ?_
  refine r_i2l B dX5_isCatcher_9 ?_
  refine r_lconst (v := 1) B dX5_isCatcher_10 (by decide) ?_
  refine r_lsub B dX5_isCatcher_11 ?_
  obtain ⟨r2, s3, hc4, h⟩ := bnd_e h
  refine r_callSv (As := [vl ((p0).toInt64), vl (0 : Int64), vl ((((si s 2 (0 : Int32).toNatClampNeg)).toInt64) - (1 : Int64))]) (rest := []) B rfl EX.same (c_X5_in B.ge hS hc4) (cw_X5_in rfl rfl) q1740 q1741 rfl dX5_isCatcher_12 ?_
  obtain ⟨hg5, h⟩ := gd_e h
  exact r_zret B dX5_isCatcher_15 hg5 h
set_option maxHeartbeats 4000000 in
theorem cw_X5_isCatcher {X : CX} {fr lo : Nat} (h1 : Nat.ble (1 + 1) fr = true) (h2 : Nat.ble (21 + 25) lo = true) : CW X fr lo yX5_isCatcher cX5_isCatcher 2 (some .boolean) 1 25 1 := ⟨q1802, q136, ⟨by decide +kernel, by decide +kernel, by decide +kernel⟩, Nat.le_of_ble_eq_true h1, Nat.le_of_ble_eq_true h2⟩

set_option maxHeartbeats 4000000 in
noncomputable def F_X5_reckon_72 (s : St) (x2 : Int64) (x4 : Int64) (z0 : Int32) : Option (Int64 × St) := gd (fits .boolean (.int z0)) <| nam (setI s 0 39 z0) fun s2 => if (si s2 0 39) = 0 then (gd (nzl x4) <| some ((x2 / x4), s2)) else (some ((0 : Int64), s2))
set_option maxHeartbeats 4000000 in
theorem w_X5_reckon_72 {X : CX} {E : EV} {a0 s' : St} {r : Int64} (B : FX X E cX5_reckon 6 (some .long) "RoseThrowModel" "reckon" (sn a0) (ss a0) 0 0) (hS : ∀ σ, eSk E σ → SkM σ) (s : St) (x2 : Int64) (x4 : Int64) (z0 : Int32) (h : F_X5_reckon_72   s x2 x4 z0 = some (r, s')) : J X E (sn a0) (ss a0) 6 (QR X E a0 (some (vl r)) s') s 72 [(0, vr (some 0)), (2, vl x2), (4, vl x4)] [vi z0, vr (some 0)] := by
  unfold F_X5_reckon_72 at h
  obtain ⟨hg1, h⟩ := gd_e h
  obtain ⟨s2, e3, h⟩ := nam_e h
  refine pI5 (k := 39) B e3 rfl (fun z => by rw [(hS _ z).1 0 (by decide)]; rfl) rfl q1556 rfl rfl (fun _ _ _ => rfl) hg1 dX5_reckon_72 ?_
  refine r_aload_n (j := 0) B dX5_reckon_75 rfl rfl ?_
  refine g5 (k := 39) B (vi (si s2 0 39)) rfl (fun z => by rw [(hS _ z).1 0 (by decide)]; rfl) rfl q1556 rfl (fun _ => rfl) dX5_reckon_76 ?_
  refine r_if_eq (tgt := 86) B dX5_reckon_79 (by decide) (fun cn4 => ?_) (fun cn4 => ?_)
  · have h := ot cn4 h
    refine r_lload_n (j := 1) B dX5_reckon_86 rfl rfl ?_
    refine r_lload (j := 2) B dX5_reckon_87 rfl ?_
    obtain ⟨hg5, h⟩ := gd_e h
    refine r_ldiv B dX5_reckon_89 (nzl_e hg5) ?_
    exact r_lret B dX5_reckon_90 h
  · have h := of cn4 h
    refine r_lconst (v := 0) B dX5_reckon_82 (by decide) ?_
    refine r_goto (tgt := 90) B dX5_reckon_83 (by decide) ?_
    exact r_lret B dX5_reckon_90 h
set_option maxHeartbeats 4000000 in
noncomputable def F_X5_reckon_104 (s : St) (x2 : Int64) (x4 : Int64) (z0 : Int32) : Option (Int64 × St) := gd (fits .boolean (.int z0)) <| nam (setI s 0 39 z0) fun s2 => if (si s2 0 39) = 0 then (gd (nzl x4) <| some ((x2 - x2 / x4 * x4), s2)) else (some ((0 : Int64), s2))
set_option maxHeartbeats 4000000 in
theorem w_X5_reckon_104 {X : CX} {E : EV} {a0 s' : St} {r : Int64} (B : FX X E cX5_reckon 6 (some .long) "RoseThrowModel" "reckon" (sn a0) (ss a0) 0 0) (hS : ∀ σ, eSk E σ → SkM σ) (s : St) (x2 : Int64) (x4 : Int64) (z0 : Int32) (h : F_X5_reckon_104   s x2 x4 z0 = some (r, s')) : J X E (sn a0) (ss a0) 6 (QR X E a0 (some (vl r)) s') s 104 [(0, vr (some 0)), (2, vl x2), (4, vl x4)] [vi z0, vr (some 0)] := by
  unfold F_X5_reckon_104 at h
  obtain ⟨hg1, h⟩ := gd_e h
  obtain ⟨s2, e3, h⟩ := nam_e h
  refine pI5 (k := 39) B e3 rfl (fun z => by rw [(hS _ z).1 0 (by decide)]; rfl) rfl q1556 rfl rfl (fun _ _ _ => rfl) hg1 dX5_reckon_104 ?_
  refine r_aload_n (j := 0) B dX5_reckon_107 rfl rfl ?_
  refine g5 (k := 39) B (vi (si s2 0 39)) rfl (fun z => by rw [(hS _ z).1 0 (by decide)]; rfl) rfl q1556 rfl (fun _ => rfl) dX5_reckon_108 ?_
  refine r_if_eq (tgt := 118) B dX5_reckon_111 (by decide) (fun cn4 => ?_) (fun cn4 => ?_)
  · have h := ot cn4 h
    refine r_lload_n (j := 1) B dX5_reckon_118 rfl rfl ?_
    refine r_lload (j := 2) B dX5_reckon_119 rfl ?_
    obtain ⟨hg5, h⟩ := gd_e h
    refine r_lrem B dX5_reckon_121 (nzl_e hg5) ?_
    exact r_lret B dX5_reckon_122 h
  · have h := of cn4 h
    refine r_lconst (v := 0) B dX5_reckon_114 (by decide) ?_
    refine r_goto (tgt := 122) B dX5_reckon_115 (by decide) ?_
    exact r_lret B dX5_reckon_122 h
set_option maxHeartbeats 4000000 in
noncomputable def F_X5_reckon (s : St) (p0 : Int32) (p1 : Int64) (p2 : Int64) : Option (Int64 × St) := (if p0 = (20 : Int32) then (some ((p1 + p2), s)) else (if p0 = (21 : Int32) then (some ((p1 - p2), s)) else (if p0 = (22 : Int32) then (some ((p1 * p2), s)) else (if p0 = (23 : Int32) then (if p2 = (0 : Int64) then (F_X5_reckon_72 s p1 p2 (1 : Int32)) else (F_X5_reckon_72 s p1 p2 (0 : Int32))) else (if p0 = (24 : Int32) then (if p2 = (0 : Int64) then (F_X5_reckon_104 s p1 p2 (1 : Int32)) else (F_X5_reckon_104 s p1 p2 (0 : Int32))) else (if p0 = (25 : Int32) then (if p2 ≤ p1 then (some ((0 : Int64), s)) else (some ((1 : Int64), s))) else (if p0 = (26 : Int32) then (if p1 ≤ p2 then (some ((0 : Int64), s)) else (some ((1 : Int64), s))) else (if p1 = p2 then (some ((1 : Int64), s)) else (some ((0 : Int64), s))))))))))
set_option maxHeartbeats 4000000 in
theorem c_X5_reckon {l : Launch} {E : EV} (hE : GE E) (hS : ∀ σ, eSk E σ → SkM σ) {s s' : St} {r : Int64} {p0 : Int32} {p1 : Int64} {p2 : Int64} (h : F_X5_reckon  s p0 p1 p2 = some (r, s')) : CT l E yX5_reckon cX5_reckon 6 (some .long) 0 0 [vr (some 0), vi p0, vl p1, vl p2] s (some (vl r)) s' := by
  refine CT.start hE (by decide) rfl [(0, vr (some 0)), (1, vi p0), (2, vl p1), (4, vl p2)] rfl (fun X hX B => ?_)
  skip
  have B : FX X E cX5_reckon 6 (some .long) "RoseThrowModel" "reckon" (sn s) (ss s) 0 0 := B
  unfold F_X5_reckon at h
  refine r_iload_n (j := 1) B dX5_reckon_0 rfl rfl ?_
  by_cases c1_0 : p0 = (20 : Int32)
  · have h := ot c1_0 h
    refine r_tin (tgt := 44) B dX5_reckon_1 c1_0 (by decide) (by decide) (off := 43) (by decide) (by decide) ?_
    refine r_lload_n (j := 2) B dX5_reckon_44 rfl rfl ?_
    refine r_lload (j := 3) B dX5_reckon_45 rfl ?_
    refine r_ladd B dX5_reckon_47 ?_
    exact r_lret B dX5_reckon_48 h
  · have h := of c1_0 h
    by_cases c1_1 : p0 = (21 : Int32)
    · have h := ot c1_1 h
      refine r_tin (tgt := 49) B dX5_reckon_1 c1_1 (by decide) (by decide) (off := 48) (by decide) (by decide) ?_
      refine r_lload_n (j := 2) B dX5_reckon_49 rfl rfl ?_
      refine r_lload (j := 3) B dX5_reckon_50 rfl ?_
      refine r_lsub B dX5_reckon_52 ?_
      exact r_lret B dX5_reckon_53 h
    · have h := of c1_1 h
      by_cases c1_2 : p0 = (22 : Int32)
      · have h := ot c1_2 h
        refine r_tin (tgt := 54) B dX5_reckon_1 c1_2 (by decide) (by decide) (off := 53) (by decide) (by decide) ?_
        refine r_lload_n (j := 2) B dX5_reckon_54 rfl rfl ?_
        refine r_lload (j := 3) B dX5_reckon_55 rfl ?_
        refine r_lmul B dX5_reckon_57 ?_
        exact r_lret B dX5_reckon_58 h
      · have h := of c1_2 h
        by_cases c1_3 : p0 = (23 : Int32)
        · have h := ot c1_3 h
          refine r_tin (tgt := 59) B dX5_reckon_1 c1_3 (by decide) (by decide) (off := 58) (by decide) (by decide) ?_
          refine r_aload_n (j := 0) B dX5_reckon_59 rfl rfl ?_
          refine r_lload (j := 3) B dX5_reckon_60 rfl ?_
          refine r_lconst (v := 0) B dX5_reckon_62 (by decide) ?_
          refine r_lcmp B dX5_reckon_63 ?_
          refine r_if_ne (tgt := 71) B dX5_reckon_64 (by decide) (fun cn1 => ?_) (fun cn1 => ?_)
          · have h := of (fun z => cn1 (lc_eq.mpr z)) h
            refine r_iconst (v := 0) B dX5_reckon_71 (by decide) ?_
            refine r_pick [0, 2, 3] (L' := [(0, vr (some 0)), (2, vl p1), (4, vl p2)]) rfl ?_
            exact w_X5_reckon_72 B hS s p1 p2 (0 : Int32) h
          · have h := ot (lc_eq.mp cn1) h
            refine r_iconst (v := 1) B dX5_reckon_67 (by decide) ?_
            refine r_goto (tgt := 72) B dX5_reckon_68 (by decide) ?_
            refine r_pick [0, 2, 3] (L' := [(0, vr (some 0)), (2, vl p1), (4, vl p2)]) rfl ?_
            exact w_X5_reckon_72 B hS s p1 p2 (1 : Int32) h
        · have h := of c1_3 h
          by_cases c1_4 : p0 = (24 : Int32)
          · have h := ot c1_4 h
            refine r_tin (tgt := 91) B dX5_reckon_1 c1_4 (by decide) (by decide) (off := 90) (by decide) (by decide) ?_
            refine r_aload_n (j := 0) B dX5_reckon_91 rfl rfl ?_
            refine r_lload (j := 3) B dX5_reckon_92 rfl ?_
            refine r_lconst (v := 0) B dX5_reckon_94 (by decide) ?_
            refine r_lcmp B dX5_reckon_95 ?_
            refine r_if_ne (tgt := 103) B dX5_reckon_96 (by decide) (fun cn2 => ?_) (fun cn2 => ?_)
            · have h := of (fun z => cn2 (lc_eq.mpr z)) h
              refine r_iconst (v := 0) B dX5_reckon_103 (by decide) ?_
              refine r_pick [0, 2, 3] (L' := [(0, vr (some 0)), (2, vl p1), (4, vl p2)]) rfl ?_
              exact w_X5_reckon_104 B hS s p1 p2 (0 : Int32) h
            · have h := ot (lc_eq.mp cn2) h
              refine r_iconst (v := 1) B dX5_reckon_99 (by decide) ?_
              refine r_goto (tgt := 104) B dX5_reckon_100 (by decide) ?_
              refine r_pick [0, 2, 3] (L' := [(0, vr (some 0)), (2, vl p1), (4, vl p2)]) rfl ?_
              exact w_X5_reckon_104 B hS s p1 p2 (1 : Int32) h
          · have h := of c1_4 h
            by_cases c1_5 : p0 = (25 : Int32)
            · have h := ot c1_5 h
              refine r_tin (tgt := 123) B dX5_reckon_1 c1_5 (by decide) (by decide) (off := 122) (by decide) (by decide) ?_
              refine r_lload_n (j := 2) B dX5_reckon_123 rfl rfl ?_
              refine r_lload (j := 3) B dX5_reckon_124 rfl ?_
              refine r_lcmp B dX5_reckon_126 ?_
              refine r_if_ge (tgt := 134) B dX5_reckon_127 (by decide) (fun cn3 => ?_) (fun cn3 => ?_)
              · have h := ot (lc_ge.mp cn3) h
                refine r_lconst (v := 0) B dX5_reckon_134 (by decide) ?_
                exact r_lret B dX5_reckon_135 h
              · have h := of (fun z => cn3 (lc_ge.mpr z)) h
                refine r_lconst (v := 1) B dX5_reckon_130 (by decide) ?_
                refine r_goto (tgt := 135) B dX5_reckon_131 (by decide) ?_
                exact r_lret B dX5_reckon_135 h
            · have h := of c1_5 h
              by_cases c1_6 : p0 = (26 : Int32)
              · have h := ot c1_6 h
                refine r_tin (tgt := 136) B dX5_reckon_1 c1_6 (by decide) (by decide) (off := 135) (by decide) (by decide) ?_
                refine r_lload_n (j := 2) B dX5_reckon_136 rfl rfl ?_
                refine r_lload (j := 3) B dX5_reckon_137 rfl ?_
                refine r_lcmp B dX5_reckon_139 ?_
                refine r_if_le (tgt := 147) B dX5_reckon_140 (by decide) (fun cn4 => ?_) (fun cn4 => ?_)
                · have h := ot (lc_le.mp cn4) h
                  refine r_lconst (v := 0) B dX5_reckon_147 (by decide) ?_
                  exact r_lret B dX5_reckon_148 h
                · have h := of (fun z => cn4 (lc_le.mpr z)) h
                  refine r_lconst (v := 1) B dX5_reckon_143 (by decide) ?_
                  refine r_goto (tgt := 148) B dX5_reckon_144 (by decide) ?_
                  exact r_lret B dX5_reckon_148 h
              · have h := of c1_6 h
                refine r_tout (tgt := 149) B dX5_reckon_1 (by have t0 := lv_neT (a := 20) c1_0 (by decide); have t1 := lv_neT (a := 21) c1_1 (by decide); have t2 := lv_neT (a := 22) c1_2 (by decide); have t3 := lv_neT (a := 23) c1_3 (by decide); have t4 := lv_neT (a := 24) c1_4 (by decide); have t5 := lv_neT (a := 25) c1_5 (by decide); have t6 := lv_neT (a := 26) c1_6 (by decide); omega) (by decide) ?_
                refine r_lload_n (j := 2) B dX5_reckon_149 rfl rfl ?_
                refine r_lload (j := 3) B dX5_reckon_150 rfl ?_
                refine r_lcmp B dX5_reckon_152 ?_
                refine r_if_ne (tgt := 160) B dX5_reckon_153 (by decide) (fun cn5 => ?_) (fun cn5 => ?_)
                · have h := of (fun z => cn5 (lc_eq.mpr z)) h
                  refine r_lconst (v := 0) B dX5_reckon_160 (by decide) ?_
                  exact r_lret B dX5_reckon_161 h
                · have h := ot (lc_eq.mp cn5) h
                  refine r_lconst (v := 1) B dX5_reckon_156 (by decide) ?_
                  refine r_goto (tgt := 161) B dX5_reckon_157 (by decide) ?_
                  exact r_lret B dX5_reckon_161 h
set_option maxHeartbeats 4000000 in
theorem cw_X5_reckon {X : CX} {fr lo : Nat} (h1 : Nat.ble (0 + 1) fr = true) (h2 : Nat.ble (25 + 0) lo = true) : CW X fr lo yX5_reckon cX5_reckon 6 (some .long) 0 0 3 := ⟨q1806, q136, ⟨by decide +kernel, by decide +kernel, by decide +kernel⟩, Nat.le_of_ble_eq_true h1, Nat.le_of_ble_eq_true h2⟩

set_option maxHeartbeats 4000000 in
noncomputable def F_X5_reckonAll_321 (k10 : St → Int32 → Int32 → Int32 → Option (Unit × St)) (s : St) (x2 : Int32) (x3 : Int32) (x4 : Int32) (x6 : Int32) (z0 : Int64) (z1 : Int64) : Option (Unit × St) := if z1 = z0 then (k10 s x2 x3 x6) else (k10 s x2 (x3 + (-1)) x4)
set_option maxHeartbeats 4000000 in
theorem w_X5_reckonAll_321 {X : CX} {E : EV} {a0 s' : St} {r : Unit} (B : FX X E cX5_reckonAll 7 none "RoseThrowModel" "reckonAll" (sn a0) (ss a0) 2 46) (hS : ∀ σ, eSk E σ → SkM σ) (k10 : St → Int32 → Int32 → Int32 → Option (Unit × St)) (hk10 : ∀ (s : St) (x2 : Int32) (x3 : Int32) (x4 : Int32), k10 s x2 x3 x4 = some (r, s') → J X E (sn a0) (ss a0) 7 (QR X E a0 none s') s 10 [(0, vr (some 0)), (2, vi x2), (3, vi x3), (4, vi x4)] []) (s : St) (x2 : Int32) (x3 : Int32) (x4 : Int32) (x6 : Int32) (z0 : Int64) (z1 : Int64) (h : F_X5_reckonAll_321  k10 s x2 x3 x4 x6 z0 z1 = some (r, s')) : J X E (sn a0) (ss a0) 7 (QR X E a0 none s') s 321 [(0, vr (some 0)), (2, vi x2), (3, vi x3), (4, vi x4), (6, vi x6)] [vl z0, vl z1] := by
  unfold F_X5_reckonAll_321 at h
  refine r_lcmp B dX5_reckonAll_321 ?_
  refine r_if_ne (tgt := 332) B dX5_reckonAll_322 (by decide) (fun cn1 => ?_) (fun cn1 => ?_)
  · have h := of (fun z => cn1 (lc_eq.mpr z)) h
    refine r_iinc (j := 2) (v := (x3 + (-1))) (L' := [(0, vr (some 0)), (2, vi x2), (3, vi (x3 + (-1))), (4, vi x4), (6, vi x6)]) B dX5_reckonAll_332 rfl rfl (by decide) rfl rfl rfl ?_
    refine r_goto (tgt := 10) B dX5_reckonAll_335 (by decide) ?_
    refine r_pick [0, 1, 2, 3] (L' := [(0, vr (some 0)), (2, vi x2), (3, vi (x3 + (-1))), (4, vi x4)]) rfl ?_
    exact hk10 s x2 (x3 + (-1)) x4 h
  · have h := ot (lc_eq.mp cn1) h
    refine r_iload (j := 4) B dX5_reckonAll_325 rfl ?_
    refine r_istore (L' := [(0, vr (some 0)), (2, vi x2), (3, vi x3), (4, vi x6), (6, vi x6)]) B dX5_reckonAll_327 (by decide) rfl rfl rfl ?_
    refine r_goto (tgt := 335) B dX5_reckonAll_329 (by decide) ?_
    refine r_goto (tgt := 10) B dX5_reckonAll_335 (by decide) ?_
    refine r_pick [0, 1, 2, 3] (L' := [(0, vr (some 0)), (2, vi x2), (3, vi x3), (4, vi x6)]) rfl ?_
    exact hk10 s x2 x3 x6 h
set_option maxHeartbeats 4000000 in
noncomputable def F_X5_reckonAll_267 (k10 : St → Int32 → Int32 → Int32 → Option (Unit × St)) (s : St) (x2 : Int32) (x3 : Int32) (x4 : Int32) (z0 : Int32) : Option (Unit × St) := gd (fits .boolean (.int z0)) <| nam (setI s 0 39 z0) fun s2 => k10 s2 x2 x3 x4
set_option maxHeartbeats 4000000 in
theorem w_X5_reckonAll_267 {X : CX} {E : EV} {a0 s' : St} {r : Unit} (B : FX X E cX5_reckonAll 7 none "RoseThrowModel" "reckonAll" (sn a0) (ss a0) 2 46) (hS : ∀ σ, eSk E σ → SkM σ) (k10 : St → Int32 → Int32 → Int32 → Option (Unit × St)) (hk10 : ∀ (s : St) (x2 : Int32) (x3 : Int32) (x4 : Int32), k10 s x2 x3 x4 = some (r, s') → J X E (sn a0) (ss a0) 7 (QR X E a0 none s') s 10 [(0, vr (some 0)), (2, vi x2), (3, vi x3), (4, vi x4)] []) (s : St) (x2 : Int32) (x3 : Int32) (x4 : Int32) (z0 : Int32) (h : F_X5_reckonAll_267  k10 s x2 x3 x4 z0 = some (r, s')) : J X E (sn a0) (ss a0) 7 (QR X E a0 none s') s 267 [(0, vr (some 0)), (2, vi x2), (3, vi x3), (4, vi x4)] [vi z0, vr (some 0)] := by
  unfold F_X5_reckonAll_267 at h
  obtain ⟨hg1, h⟩ := gd_e h
  obtain ⟨s2, e3, h⟩ := nam_e h
  refine pI5 (k := 39) B e3 rfl (fun z => by rw [(hS _ z).1 0 (by decide)]; rfl) rfl q1556 rfl rfl (fun _ _ _ => rfl) hg1 dX5_reckonAll_267 ?_
  refine r_goto (tgt := 335) B dX5_reckonAll_270 (by decide) ?_
  refine r_goto (tgt := 10) B dX5_reckonAll_335 (by decide) ?_
  exact hk10 s2 x2 x3 x4 h
set_option maxHeartbeats 4000000 in
noncomputable def F_X5_reckonAll_262 (k10 : St → Int32 → Int32 → Int32 → Option (Unit × St)) (s : St) (x2 : Int32) (x3 : Int32) (x4 : Int32) : Option (Unit × St) := F_X5_reckonAll_267 k10 s x2 x3 x4 (1 : Int32)
set_option maxHeartbeats 4000000 in
theorem w_X5_reckonAll_262 {X : CX} {E : EV} {a0 s' : St} {r : Unit} (B : FX X E cX5_reckonAll 7 none "RoseThrowModel" "reckonAll" (sn a0) (ss a0) 2 46) (hS : ∀ σ, eSk E σ → SkM σ) (k10 : St → Int32 → Int32 → Int32 → Option (Unit × St)) (hk10 : ∀ (s : St) (x2 : Int32) (x3 : Int32) (x4 : Int32), k10 s x2 x3 x4 = some (r, s') → J X E (sn a0) (ss a0) 7 (QR X E a0 none s') s 10 [(0, vr (some 0)), (2, vi x2), (3, vi x3), (4, vi x4)] []) (s : St) (x2 : Int32) (x3 : Int32) (x4 : Int32) (h : F_X5_reckonAll_262  k10 s x2 x3 x4 = some (r, s')) : J X E (sn a0) (ss a0) 7 (QR X E a0 none s') s 262 [(0, vr (some 0)), (2, vi x2), (3, vi x3), (4, vi x4)] [vr (some 0)] := by
  unfold F_X5_reckonAll_262 at h
  refine r_iconst (v := 1) B dX5_reckonAll_262 (by decide) ?_
  refine r_goto (tgt := 267) B dX5_reckonAll_263 (by decide) ?_
  exact w_X5_reckonAll_267 B hS k10 hk10 s x2 x3 x4 (1 : Int32) h
set_option maxHeartbeats 4000000 in
noncomputable def F_X5_reckonAll_189 (k10 : St → Int32 → Int32 → Int32 → Option (Unit × St)) (s : St) (x2 : Int32) (x3 : Int32) (x4 : Int32) (z0 : Int64) (z1 : Int32) : Option (Unit × St) := gd (inb z1 400) <| nam (setL s 21 z1.toNatClampNeg z0) fun s2 => k10 s2 x2 (x3 + (1)) x4
set_option maxHeartbeats 4000000 in
theorem w_X5_reckonAll_189 {X : CX} {E : EV} {a0 s' : St} {r : Unit} (B : FX X E cX5_reckonAll 7 none "RoseThrowModel" "reckonAll" (sn a0) (ss a0) 2 46) (hS : ∀ σ, eSk E σ → SkM σ) (k10 : St → Int32 → Int32 → Int32 → Option (Unit × St)) (hk10 : ∀ (s : St) (x2 : Int32) (x3 : Int32) (x4 : Int32), k10 s x2 x3 x4 = some (r, s') → J X E (sn a0) (ss a0) 7 (QR X E a0 none s') s 10 [(0, vr (some 0)), (2, vi x2), (3, vi x3), (4, vi x4)] []) (s : St) (x2 : Int32) (x3 : Int32) (x4 : Int32) (z0 : Int64) (z1 : Int32) (h : F_X5_reckonAll_189  k10 s x2 x3 x4 z0 z1 = some (r, s')) : J X E (sn a0) (ss a0) 7 (QR X E a0 none s') s 189 [(0, vr (some 0)), (2, vi x2), (3, vi x3), (4, vi x4)] [vl z0, vi z1, vr (some 21)] := by
  unfold F_X5_reckonAll_189 at h
  obtain ⟨hg1, h⟩ := gd_e h
  obtain ⟨s2, e3, h⟩ := nam_e h
  refine r_last B e3 rfl (fun z => (hS _ z).1 21 (by decide)) hg1 dX5_reckonAll_189 ?_
  refine r_iinc (j := 2) (v := (x3 + (1))) (L' := [(0, vr (some 0)), (2, vi x2), (3, vi (x3 + (1))), (4, vi x4)]) B dX5_reckonAll_190 rfl rfl (by decide) rfl rfl rfl ?_
  refine r_goto (tgt := 335) B dX5_reckonAll_193 (by decide) ?_
  refine r_goto (tgt := 10) B dX5_reckonAll_335 (by decide) ?_
  exact hk10 s2 x2 (x3 + (1)) x4 h
set_option maxHeartbeats 4000000 in
noncomputable def F_X5_reckonAll_185 (k10 : St → Int32 → Int32 → Int32 → Option (Unit × St)) (s : St) (x2 : Int32) (x3 : Int32) (x4 : Int32) (z0 : Int32) (z1 : Int32) (z3 : Int32) : Option (Unit × St) := bnd (F_X5_ofCatcher s z1 z0) fun r1 s2 => F_X5_reckonAll_189 k10 s2 x2 x3 x4 ((r1).toInt64) z3
set_option maxHeartbeats 4000000 in
theorem w_X5_reckonAll_185 {X : CX} {E : EV} {a0 s' : St} {r : Unit} (B : FX X E cX5_reckonAll 7 none "RoseThrowModel" "reckonAll" (sn a0) (ss a0) 2 46) (hS : ∀ σ, eSk E σ → SkM σ) (k10 : St → Int32 → Int32 → Int32 → Option (Unit × St)) (hk10 : ∀ (s : St) (x2 : Int32) (x3 : Int32) (x4 : Int32), k10 s x2 x3 x4 = some (r, s') → J X E (sn a0) (ss a0) 7 (QR X E a0 none s') s 10 [(0, vr (some 0)), (2, vi x2), (3, vi x3), (4, vi x4)] []) (s : St) (x2 : Int32) (x3 : Int32) (x4 : Int32) (z0 : Int32) (z1 : Int32) (z3 : Int32) (h : F_X5_reckonAll_185  k10 s x2 x3 x4 z0 z1 z3 = some (r, s')) : J X E (sn a0) (ss a0) 7 (QR X E a0 none s') s 185 [(0, vr (some 0)), (2, vi x2), (3, vi x3), (4, vi x4)] [vi z0, vi z1, vr (some 0), vi z3, vr (some 21)] := by
  unfold F_X5_reckonAll_185 at h
  obtain ⟨r1, s2, hc3, h⟩ := bnd_e h
  refine r_callVv (As := [vi z1, vi z0]) (rest := [vi z3, vr (some 21)]) B rfl rfl EX.same (c_X5_ofCatcher B.ge hS hc3) (cw_X5_ofCatcher rfl rfl) (fun z => RV.of 5 ((fun z => by rw [(hS _ z).1 0 (by decide)]; rfl) z) rfl rfl qs52) q1766 q1768 rfl dX5_reckonAll_185 ?_
  refine r_i2l B dX5_reckonAll_188 ?_
  exact w_X5_reckonAll_189 B hS k10 hk10 s2 x2 x3 x4 ((r1).toInt64) z3 h
set_option maxHeartbeats 4000000 in
noncomputable def F_X5_reckonAll_95 (k10 : St → Int32 → Int32 → Int32 → Option (Unit × St)) (s : St) (x2 : Int32) (x3 : Int32) (x4 : Int32) (x5 : Int32) (z0 : Int32) : Option (Unit × St) := if (20 : Int32) ≤ x5 then (if (28 : Int32) ≤ x5 then (if x5 = (28 : Int32) then (gd (inb (x3 - (1 : Int32)) 400) <| gd (inb (x3 - (1 : Int32)) 400) <| nam (setL s 21 (x3 - (1 : Int32)).toNatClampNeg ((1 : Int64) - (sl s 21 (x3 - (1 : Int32)).toNatClampNeg))) fun s8 => k10 s8 x2 x3 (x4 + (1))) else (gd (inb (x3 - (1 : Int32)) 400) <| if x5 = (29 : Int32) then (F_X5_reckonAll_321 k10 s x2 x3 (x4 + (1)) z0 (0 : Int64) (sl s 21 (x3 - (1 : Int32)).toNatClampNeg)) else (F_X5_reckonAll_321 k10 s x2 x3 (x4 + (1)) z0 (1 : Int64) (sl s 21 (x3 - (1 : Int32)).toNatClampNeg)))) else (gd (inb ((x3 + (-1)) - (1 : Int32)) 400) <| gd (inb (x3 + (-1)) 400) <| bnd (F_X5_reckon s x5 (sl s 21 ((x3 + (-1)) - (1 : Int32)).toNatClampNeg) (sl s 21 (x3 + (-1)).toNatClampNeg)) fun r12 s13 => gd (inb ((x3 + (-1)) - (1 : Int32)) 400) <| nam (setL s13 21 ((x3 + (-1)) - (1 : Int32)).toNatClampNeg r12) fun s16 => if (si s16 0 39) = 0 then (gd (inb ((x3 + (-1)) - (1 : Int32)) 400) <| bnd (F_X5_in s16 (sl s16 21 ((x3 + (-1)) - (1 : Int32)).toNatClampNeg) (-1000000000 : Int64) (1000000000 : Int64)) fun r20 s21 => if r20 = 0 then (F_X5_reckonAll_262 k10 s21 x2 (x3 + (-1)) (x4 + (1))) else (F_X5_reckonAll_267 k10 s21 x2 (x3 + (-1)) (x4 + (1)) (0 : Int32))) else (F_X5_reckonAll_262 k10 s16 x2 (x3 + (-1)) (x4 + (1))))) else (if x5 = 0 then (F_X5_reckonAll_189 k10 s x2 x3 (x4 + (1)) ((z0).toInt64) x3) else (if (si s 0 21) = 0 then (gd (inb x5 15) <| F_X5_reckonAll_189 k10 s x2 x3 (x4 + (1)) (sl s 19 x5.toNatClampNeg) x3) else (if (4 : Int32) ≤ x5 then (bnd (F_X5_isCatcher s z0) fun r27 s28 => if r27 = 0 then (F_X5_reckonAll_189 k10 s28 x2 x3 (x4 + (1)) (-1 : Int64) x3) else (if x5 = (4 : Int32) then (F_X5_reckonAll_185 k10 s28 x2 x3 (x4 + (1)) (3 : Int32) z0 x3) else (F_X5_reckonAll_185 k10 s28 x2 x3 (x4 + (1)) (4 : Int32) z0 x3))) else (gd (inb x5 13) <| F_X5_reckonAll_189 k10 s x2 x3 (x4 + (1)) (sl s 20 x5.toNatClampNeg) x3))))
set_option maxHeartbeats 4000000 in
theorem w_X5_reckonAll_95 {X : CX} {E : EV} {a0 s' : St} {r : Unit} (B : FX X E cX5_reckonAll 7 none "RoseThrowModel" "reckonAll" (sn a0) (ss a0) 2 46) (hS : ∀ σ, eSk E σ → SkM σ) (k10 : St → Int32 → Int32 → Int32 → Option (Unit × St)) (hk10 : ∀ (s : St) (x2 : Int32) (x3 : Int32) (x4 : Int32), k10 s x2 x3 x4 = some (r, s') → J X E (sn a0) (ss a0) 7 (QR X E a0 none s') s 10 [(0, vr (some 0)), (2, vi x2), (3, vi x3), (4, vi x4)] []) (s : St) (x2 : Int32) (x3 : Int32) (x4 : Int32) (x5 : Int32) (z0 : Int32) (h : F_X5_reckonAll_95  k10 s x2 x3 x4 x5 z0 = some (r, s')) : J X E (sn a0) (ss a0) 7 (QR X E a0 none s') s 95 [(0, vr (some 0)), (2, vi x2), (3, vi x3), (4, vi x4), (5, vi x5)] [vi z0] := by
  unfold F_X5_reckonAll_95 at h
  refine r_istore (L' := [(0, vr (some 0)), (2, vi x2), (3, vi x3), (4, vi x4), (5, vi x5), (6, vi z0)]) B dX5_reckonAll_95 (by decide) rfl rfl rfl ?_
  refine r_iinc (j := 3) (v := (x4 + (1))) (L' := [(0, vr (some 0)), (2, vi x2), (3, vi x3), (4, vi (x4 + (1))), (5, vi x5), (6, vi z0)]) B dX5_reckonAll_97 rfl rfl (by decide) rfl rfl rfl ?_
  refine r_iload (j := 4) B dX5_reckonAll_100 rfl ?_
  refine r_bipush (v := 20) B dX5_reckonAll_102 (by decide) ?_
  refine r_ic_ge (tgt := 196) B dX5_reckonAll_104 (by decide) (fun cn1 => ?_) (fun cn1 => ?_)
  · have h := ot cn1 h
    refine r_iload (j := 4) B dX5_reckonAll_196 rfl ?_
    refine r_bipush (v := 28) B dX5_reckonAll_198 (by decide) ?_
    refine r_ic_ge (tgt := 273) B dX5_reckonAll_200 (by decide) (fun cn2 => ?_) (fun cn2 => ?_)
    · have h := ot cn2 h
      refine r_iload (j := 4) B dX5_reckonAll_273 rfl ?_
      refine r_bipush (v := 28) B dX5_reckonAll_275 (by decide) ?_
      refine r_ic_ne (tgt := 301) B dX5_reckonAll_277 (by decide) (fun cn3 => ?_) (fun cn3 => ?_)
      · have h := of cn3 h
        refine r_aload_n (j := 0) B dX5_reckonAll_301 rfl rfl ?_
        refine g5 (k := 38) B (vr (some 21)) rfl (fun z => by rw [(hS _ z).1 0 (by decide)]; rfl) rfl q1555 rfl (fun z => by rw [(hS _ z).2 _ (List.mem_of_getElem? (i := 20) rfl)]; rfl) dX5_reckonAll_302 ?_
        refine r_iload_n (j := 2) B dX5_reckonAll_305 rfl rfl ?_
        refine r_iconst (v := 1) B dX5_reckonAll_306 (by decide) ?_
        refine r_isub B dX5_reckonAll_307 ?_
        obtain ⟨hg4, h⟩ := gd_e h
        refine r_lald B rfl (fun z => (hS _ z).1 21 (by decide)) hg4 dX5_reckonAll_308 ?_
        refine r_iload (j := 4) B dX5_reckonAll_309 rfl ?_
        refine r_bipush (v := 29) B dX5_reckonAll_311 (by decide) ?_
        refine r_ic_ne (tgt := 320) B dX5_reckonAll_313 (by decide) (fun cn5 => ?_) (fun cn5 => ?_)
        · have h := of cn5 h
          refine r_lconst (v := 1) B dX5_reckonAll_320 (by decide) ?_
          refine r_pick [0, 1, 2, 3, 5] (L' := [(0, vr (some 0)), (2, vi x2), (3, vi x3), (4, vi (x4 + (1))), (6, vi z0)]) rfl ?_
          exact w_X5_reckonAll_321 B hS k10 hk10 s x2 x3 (x4 + (1)) z0 (1 : Int64) (sl s 21 (x3 - (1 : Int32)).toNatClampNeg) h
        · have h := ot cn5 h
          refine r_lconst (v := 0) B dX5_reckonAll_316 (by decide) ?_
          refine r_goto (tgt := 321) B dX5_reckonAll_317 (by decide) ?_
          refine r_pick [0, 1, 2, 3, 5] (L' := [(0, vr (some 0)), (2, vi x2), (3, vi x3), (4, vi (x4 + (1))), (6, vi z0)]) rfl ?_
          exact w_X5_reckonAll_321 B hS k10 hk10 s x2 x3 (x4 + (1)) z0 (0 : Int64) (sl s 21 (x3 - (1 : Int32)).toNatClampNeg) h
      · have h := ot cn3 h
        refine r_aload_n (j := 0) B dX5_reckonAll_280 rfl rfl ?_
        refine g5 (k := 38) B (vr (some 21)) rfl (fun z => by rw [(hS _ z).1 0 (by decide)]; rfl) rfl q1555 rfl (fun z => by rw [(hS _ z).2 _ (List.mem_of_getElem? (i := 20) rfl)]; rfl) dX5_reckonAll_281 ?_
        refine r_iload_n (j := 2) B dX5_reckonAll_284 rfl rfl ?_
        refine r_iconst (v := 1) B dX5_reckonAll_285 (by decide) ?_
        refine r_isub B dX5_reckonAll_286 ?_
        refine r_lconst (v := 1) B dX5_reckonAll_287 (by decide) ?_
        refine r_aload_n (j := 0) B dX5_reckonAll_288 rfl rfl ?_
        refine g5 (k := 38) B (vr (some 21)) rfl (fun z => by rw [(hS _ z).1 0 (by decide)]; rfl) rfl q1555 rfl (fun z => by rw [(hS _ z).2 _ (List.mem_of_getElem? (i := 20) rfl)]; rfl) dX5_reckonAll_289 ?_
        refine r_iload_n (j := 2) B dX5_reckonAll_292 rfl rfl ?_
        refine r_iconst (v := 1) B dX5_reckonAll_293 (by decide) ?_
        refine r_isub B dX5_reckonAll_294 ?_
        obtain ⟨hg6, h⟩ := gd_e h
        refine r_lald B rfl (fun z => (hS _ z).1 21 (by decide)) hg6 dX5_reckonAll_295 ?_
        refine r_lsub B dX5_reckonAll_296 ?_
        obtain ⟨hg7, h⟩ := gd_e h
        obtain ⟨s8, e9, h⟩ := nam_e h
        refine r_last B e9 rfl (fun z => (hS _ z).1 21 (by decide)) hg7 dX5_reckonAll_297 ?_
        refine r_goto (tgt := 335) B dX5_reckonAll_298 (by decide) ?_
        refine r_goto (tgt := 10) B dX5_reckonAll_335 (by decide) ?_
        refine r_pick [0, 1, 2, 3] (L' := [(0, vr (some 0)), (2, vi x2), (3, vi x3), (4, vi (x4 + (1)))]) rfl ?_
        exact hk10 s8 x2 x3 (x4 + (1)) h
    · have h := of cn2 h
      refine r_iinc (j := 2) (v := (x3 + (-1))) (L' := [(0, vr (some 0)), (2, vi x2), (3, vi (x3 + (-1))), (4, vi (x4 + (1))), (5, vi x5), (6, vi z0)]) B dX5_reckonAll_203 rfl rfl (by decide) rfl rfl rfl ?_
      refine r_aload_n (j := 0) B dX5_reckonAll_206 rfl rfl ?_
      refine g5 (k := 38) B (vr (some 21)) rfl (fun z => by rw [(hS _ z).1 0 (by decide)]; rfl) rfl q1555 rfl (fun z => by rw [(hS _ z).2 _ (List.mem_of_getElem? (i := 20) rfl)]; rfl) dX5_reckonAll_207 ?_
      refine r_iload_n (j := 2) B dX5_reckonAll_210 rfl rfl ?_
      refine r_iconst (v := 1) B dX5_reckonAll_211 (by decide) ?_
      refine r_isub B dX5_reckonAll_212 ?_
      refine r_aload_n (j := 0) B dX5_reckonAll_213 rfl rfl ?_
      refine r_iload (j := 4) B dX5_reckonAll_214 rfl ?_
      refine r_aload_n (j := 0) B dX5_reckonAll_216 rfl rfl ?_
      refine g5 (k := 38) B (vr (some 21)) rfl (fun z => by rw [(hS _ z).1 0 (by decide)]; rfl) rfl q1555 rfl (fun z => by rw [(hS _ z).2 _ (List.mem_of_getElem? (i := 20) rfl)]; rfl) dX5_reckonAll_217 ?_
      refine r_iload_n (j := 2) B dX5_reckonAll_220 rfl rfl ?_
      refine r_iconst (v := 1) B dX5_reckonAll_221 (by decide) ?_
      refine r_isub B dX5_reckonAll_222 ?_
      obtain ⟨hg10, h⟩ := gd_e h
      refine r_lald B rfl (fun z => (hS _ z).1 21 (by decide)) hg10 dX5_reckonAll_223 ?_
      refine r_aload_n (j := 0) B dX5_reckonAll_224 rfl rfl ?_
      refine g5 (k := 38) B (vr (some 21)) rfl (fun z => by rw [(hS _ z).1 0 (by decide)]; rfl) rfl q1555 rfl (fun z => by rw [(hS _ z).2 _ (List.mem_of_getElem? (i := 20) rfl)]; rfl) dX5_reckonAll_225 ?_
      refine r_iload_n (j := 2) B dX5_reckonAll_228 rfl rfl ?_
      obtain ⟨hg11, h⟩ := gd_e h
      refine r_lald B rfl (fun z => (hS _ z).1 21 (by decide)) hg11 dX5_reckonAll_229 ?_
      obtain ⟨r12, s13, hc14, h⟩ := bnd_e h
      refine r_callVv (As := [vi x5, vl (sl s 21 ((x3 + (-1)) - (1 : Int32)).toNatClampNeg), vl (sl s 21 (x3 + (-1)).toNatClampNeg)]) (rest := [vi ((x3 + (-1)) - (1 : Int32)), vr (some 21)]) B rfl rfl EX.same (c_X5_reckon B.ge hS hc14) (cw_X5_reckon rfl rfl) (fun z => RV.of 5 ((fun z => by rw [(hS _ z).1 0 (by decide)]; rfl) z) rfl rfl qs61) q1803 q1805 rfl dX5_reckonAll_230 ?_
      obtain ⟨hg15, h⟩ := gd_e h
      obtain ⟨s16, e17, h⟩ := nam_e h
      refine r_last B e17 rfl (fun z => (hS _ z).1 21 (by decide)) hg15 dX5_reckonAll_233 ?_
      refine r_aload_n (j := 0) B dX5_reckonAll_234 rfl rfl ?_
      refine r_aload_n (j := 0) B dX5_reckonAll_235 rfl rfl ?_
      refine g5 (k := 39) B (vi (si s16 0 39)) rfl (fun z => by rw [(hS _ z).1 0 (by decide)]; rfl) rfl q1556 rfl (fun _ => rfl) dX5_reckonAll_236 ?_
      refine r_if_ne (tgt := 262) B dX5_reckonAll_239 (by decide) (fun cn18 => ?_) (fun cn18 => ?_)
      · have h := of cn18 h
        refine r_pick [0, 1, 2, 3] (L' := [(0, vr (some 0)), (2, vi x2), (3, vi (x3 + (-1))), (4, vi (x4 + (1)))]) rfl ?_
        exact w_X5_reckonAll_262 B hS k10 hk10 s16 x2 (x3 + (-1)) (x4 + (1)) h
      · have h := ot cn18 h
        refine r_aload_n (j := 0) B dX5_reckonAll_242 rfl rfl ?_
        refine g5 (k := 38) B (vr (some 21)) rfl (fun z => by rw [(hS _ z).1 0 (by decide)]; rfl) rfl q1555 rfl (fun z => by rw [(hS _ z).2 _ (List.mem_of_getElem? (i := 20) rfl)]; rfl) dX5_reckonAll_243 ?_
        refine r_iload_n (j := 2) B dX5_reckonAll_246 rfl rfl ?_
        refine r_iconst (v := 1) B dX5_reckonAll_247 (by decide) ?_
        refine r_isub B dX5_reckonAll_248 ?_
        obtain ⟨hg19, h⟩ := gd_e h
        refine r_lald B rfl (fun z => (hS _ z).1 21 (by decide)) hg19 dX5_reckonAll_249 ?_
        refine r_ldc2 B dX5_reckonAll_250 q1807 ?_
        refine r_ldc2 B dX5_reckonAll_253 q1808 ?_
        obtain ⟨r20, s21, hc22, h⟩ := bnd_e h
        refine r_callSv (As := [vl (sl s16 21 ((x3 + (-1)) - (1 : Int32)).toNatClampNeg), vl (-1000000000 : Int64), vl (1000000000 : Int64)]) (rest := [vr (some 0)]) B rfl EX.same (c_X5_in B.ge hS hc22) (cw_X5_in rfl rfl) q1740 q1741 rfl dX5_reckonAll_256 ?_
        refine r_if_ne (tgt := 266) B dX5_reckonAll_259 (by decide) (fun cn23 => ?_) (fun cn23 => ?_)
        · have h := of cn23 h
          refine r_iconst (v := 0) B dX5_reckonAll_266 (by decide) ?_
          refine r_pick [0, 1, 2, 3] (L' := [(0, vr (some 0)), (2, vi x2), (3, vi (x3 + (-1))), (4, vi (x4 + (1)))]) rfl ?_
          exact w_X5_reckonAll_267 B hS k10 hk10 s21 x2 (x3 + (-1)) (x4 + (1)) (0 : Int32) h
        · have h := ot cn23 h
          refine r_pick [0, 1, 2, 3] (L' := [(0, vr (some 0)), (2, vi x2), (3, vi (x3 + (-1))), (4, vi (x4 + (1)))]) rfl ?_
          exact w_X5_reckonAll_262 B hS k10 hk10 s21 x2 (x3 + (-1)) (x4 + (1)) h
  · have h := of cn1 h
    refine r_aload_n (j := 0) B dX5_reckonAll_107 rfl rfl ?_
    refine g5 (k := 38) B (vr (some 21)) rfl (fun z => by rw [(hS _ z).1 0 (by decide)]; rfl) rfl q1555 rfl (fun z => by rw [(hS _ z).2 _ (List.mem_of_getElem? (i := 20) rfl)]; rfl) dX5_reckonAll_108 ?_
    refine r_iload_n (j := 2) B dX5_reckonAll_111 rfl rfl ?_
    refine r_iload (j := 4) B dX5_reckonAll_112 rfl ?_
    refine r_if_ne (tgt := 123) B dX5_reckonAll_114 (by decide) (fun cn24 => ?_) (fun cn24 => ?_)
    · have h := of cn24 h
      refine r_aload_n (j := 0) B dX5_reckonAll_123 rfl rfl ?_
      refine g5 (k := 21) B (vi (si s 0 21)) rfl (fun z => by rw [(hS _ z).1 0 (by decide)]; rfl) rfl q1538 rfl (fun _ => rfl) dX5_reckonAll_124 ?_
      refine r_if_ne (tgt := 140) B dX5_reckonAll_127 (by decide) (fun cn25 => ?_) (fun cn25 => ?_)
      · have h := of cn25 h
        refine r_iload (j := 4) B dX5_reckonAll_140 rfl ?_
        refine r_iconst (v := 4) B dX5_reckonAll_142 (by decide) ?_
        refine r_ic_ge (tgt := 156) B dX5_reckonAll_143 (by decide) (fun cn26 => ?_) (fun cn26 => ?_)
        · have h := ot cn26 h
          refine r_aload_n (j := 0) B dX5_reckonAll_156 rfl rfl ?_
          refine r_iload (j := 5) B dX5_reckonAll_157 rfl ?_
          obtain ⟨r27, s28, hc29, h⟩ := bnd_e h
          refine r_callVv (As := [vi z0]) (rest := [vi x3, vr (some 21)]) B rfl rfl EX.same (c_X5_isCatcher B.ge hS hc29) (cw_X5_isCatcher rfl rfl) (fun z => RV.of 5 ((fun z => by rw [(hS _ z).1 0 (by decide)]; rfl) z) rfl rfl qs60) q1799 q1801 rfl dX5_reckonAll_159 ?_
          refine r_if_ne (tgt := 171) B dX5_reckonAll_162 (by decide) (fun cn30 => ?_) (fun cn30 => ?_)
          · have h := of cn30 h
            refine r_aload_n (j := 0) B dX5_reckonAll_171 rfl rfl ?_
            refine r_iload (j := 5) B dX5_reckonAll_172 rfl ?_
            refine r_iload (j := 4) B dX5_reckonAll_174 rfl ?_
            refine r_iconst (v := 4) B dX5_reckonAll_176 (by decide) ?_
            refine r_ic_ne (tgt := 184) B dX5_reckonAll_177 (by decide) (fun cn31 => ?_) (fun cn31 => ?_)
            · have h := of cn31 h
              refine r_iconst (v := 4) B dX5_reckonAll_184 (by decide) ?_
              refine r_pick [0, 1, 2, 3] (L' := [(0, vr (some 0)), (2, vi x2), (3, vi x3), (4, vi (x4 + (1)))]) rfl ?_
              exact w_X5_reckonAll_185 B hS k10 hk10 s28 x2 x3 (x4 + (1)) (4 : Int32) z0 x3 h
            · have h := ot cn31 h
              refine r_iconst (v := 3) B dX5_reckonAll_180 (by decide) ?_
              refine r_goto (tgt := 185) B dX5_reckonAll_181 (by decide) ?_
              refine r_pick [0, 1, 2, 3] (L' := [(0, vr (some 0)), (2, vi x2), (3, vi x3), (4, vi (x4 + (1)))]) rfl ?_
              exact w_X5_reckonAll_185 B hS k10 hk10 s28 x2 x3 (x4 + (1)) (3 : Int32) z0 x3 h
          · have h := ot cn30 h
            refine r_ldc2 B dX5_reckonAll_165 q1782 ?_
            refine r_goto (tgt := 189) B dX5_reckonAll_168 (by decide) ?_
            refine r_pick [0, 1, 2, 3] (L' := [(0, vr (some 0)), (2, vi x2), (3, vi x3), (4, vi (x4 + (1)))]) rfl ?_
            exact w_X5_reckonAll_189 B hS k10 hk10 s28 x2 x3 (x4 + (1)) (-1 : Int64) x3 h
        · have h := of cn26 h
          refine r_aload_n (j := 0) B dX5_reckonAll_146 rfl rfl ?_
          refine g5 (k := 37) B (vr (some 20)) rfl (fun z => by rw [(hS _ z).1 0 (by decide)]; rfl) rfl q1554 rfl (fun z => by rw [(hS _ z).2 _ (List.mem_of_getElem? (i := 19) rfl)]; rfl) dX5_reckonAll_147 ?_
          refine r_iload (j := 4) B dX5_reckonAll_150 rfl ?_
          obtain ⟨hg32, h⟩ := gd_e h
          refine r_lald B rfl (fun z => (hS _ z).1 20 (by decide)) hg32 dX5_reckonAll_152 ?_
          refine r_goto (tgt := 189) B dX5_reckonAll_153 (by decide) ?_
          refine r_pick [0, 1, 2, 3] (L' := [(0, vr (some 0)), (2, vi x2), (3, vi x3), (4, vi (x4 + (1)))]) rfl ?_
          exact w_X5_reckonAll_189 B hS k10 hk10 s x2 x3 (x4 + (1)) (sl s 20 x5.toNatClampNeg) x3 h
      · have h := ot cn25 h
        refine r_aload_n (j := 0) B dX5_reckonAll_130 rfl rfl ?_
        refine g5 (k := 36) B (vr (some 19)) rfl (fun z => by rw [(hS _ z).1 0 (by decide)]; rfl) rfl q1553 rfl (fun z => by rw [(hS _ z).2 _ (List.mem_of_getElem? (i := 18) rfl)]; rfl) dX5_reckonAll_131 ?_
        refine r_iload (j := 4) B dX5_reckonAll_134 rfl ?_
        obtain ⟨hg33, h⟩ := gd_e h
        refine r_lald B rfl (fun z => (hS _ z).1 19 (by decide)) hg33 dX5_reckonAll_136 ?_
        refine r_goto (tgt := 189) B dX5_reckonAll_137 (by decide) ?_
        refine r_pick [0, 1, 2, 3] (L' := [(0, vr (some 0)), (2, vi x2), (3, vi x3), (4, vi (x4 + (1)))]) rfl ?_
        exact w_X5_reckonAll_189 B hS k10 hk10 s x2 x3 (x4 + (1)) (sl s 19 x5.toNatClampNeg) x3 h
    · have h := ot cn24 h
      refine r_iload (j := 5) B dX5_reckonAll_117 rfl ?_
      refine r_i2l B dX5_reckonAll_119 ?_
      refine r_goto (tgt := 189) B dX5_reckonAll_120 (by decide) ?_
      refine r_pick [0, 1, 2, 3] (L' := [(0, vr (some 0)), (2, vi x2), (3, vi x3), (4, vi (x4 + (1)))]) rfl ?_
      exact w_X5_reckonAll_189 B hS k10 hk10 s x2 x3 (x4 + (1)) ((z0).toInt64) x3 h
set_option maxHeartbeats 4000000 in
noncomputable def F_X5_reckonAll_57 (k10 : St → Int32 → Int32 → Int32 → Option (Unit × St)) (s : St) (x2 : Int32) (x3 : Int32) (x4 : Int32) (z0 : Int32) : Option (Unit × St) := if (si s 0 21) = 0 then (gd (inb ((((si s 0 35) + (98 : Int32)) + ((2 : Int32) * x4)) + (1 : Int32)) 5460) <| F_X5_reckonAll_95 k10 s x2 x3 x4 z0 (si s 2 ((((si s 0 35) + (98 : Int32)) + ((2 : Int32) * x4)) + (1 : Int32)).toNatClampNeg)) else (gd (inb x4 400) <| F_X5_reckonAll_95 k10 s x2 x3 x4 z0 (si s 13 x4.toNatClampNeg))
set_option maxHeartbeats 4000000 in
theorem w_X5_reckonAll_57 {X : CX} {E : EV} {a0 s' : St} {r : Unit} (B : FX X E cX5_reckonAll 7 none "RoseThrowModel" "reckonAll" (sn a0) (ss a0) 2 46) (hS : ∀ σ, eSk E σ → SkM σ) (k10 : St → Int32 → Int32 → Int32 → Option (Unit × St)) (hk10 : ∀ (s : St) (x2 : Int32) (x3 : Int32) (x4 : Int32), k10 s x2 x3 x4 = some (r, s') → J X E (sn a0) (ss a0) 7 (QR X E a0 none s') s 10 [(0, vr (some 0)), (2, vi x2), (3, vi x3), (4, vi x4)] []) (s : St) (x2 : Int32) (x3 : Int32) (x4 : Int32) (z0 : Int32) (h : F_X5_reckonAll_57  k10 s x2 x3 x4 z0 = some (r, s')) : J X E (sn a0) (ss a0) 7 (QR X E a0 none s') s 57 [(0, vr (some 0)), (2, vi x2), (3, vi x3), (4, vi x4)] [vi z0] := by
  unfold F_X5_reckonAll_57 at h
  refine r_istore (L' := [(0, vr (some 0)), (2, vi x2), (3, vi x3), (4, vi x4), (5, vi z0)]) B dX5_reckonAll_57 (by decide) rfl rfl rfl ?_
  refine r_aload_n (j := 0) B dX5_reckonAll_59 rfl rfl ?_
  refine g5 (k := 21) B (vi (si s 0 21)) rfl (fun z => by rw [(hS _ z).1 0 (by decide)]; rfl) rfl q1538 rfl (fun _ => rfl) dX5_reckonAll_60 ?_
  refine r_if_eq (tgt := 76) B dX5_reckonAll_63 (by decide) (fun cn1 => ?_) (fun cn1 => ?_)
  · have h := ot cn1 h
    refine r_aload_n (j := 0) B dX5_reckonAll_76 rfl rfl ?_
    refine g5 (k := 3) B (vr (some 2)) rfl (fun z => by rw [(hS _ z).1 0 (by decide)]; rfl) rfl q1520 rfl (fun z => by rw [(hS _ z).2 _ (List.mem_of_getElem? (i := 1) rfl)]; rfl) dX5_reckonAll_77 ?_
    refine r_aload_n (j := 0) B dX5_reckonAll_80 rfl rfl ?_
    refine g5 (k := 35) B (vi (si s 0 35)) rfl (fun z => by rw [(hS _ z).1 0 (by decide)]; rfl) rfl q1552 rfl (fun _ => rfl) dX5_reckonAll_81 ?_
    refine r_bipush (v := 98) B dX5_reckonAll_84 (by decide) ?_
    refine r_iadd B dX5_reckonAll_86 ?_
    refine r_iconst (v := 2) B dX5_reckonAll_87 (by decide) ?_
    refine r_iload (j := 3) B dX5_reckonAll_88 rfl ?_
    refine r_imul B dX5_reckonAll_90 ?_
    refine r_iadd B dX5_reckonAll_91 ?_
    refine r_iconst (v := 1) B dX5_reckonAll_92 (by decide) ?_
    refine r_iadd B dX5_reckonAll_93 ?_
    obtain ⟨hg2, h⟩ := gd_e h
    refine r_iald B rfl (fun z => (hS _ z).1 2 (by decide)) hg2 dX5_reckonAll_94 ?_
    exact w_X5_reckonAll_95 B hS k10 hk10 s x2 x3 x4 z0 (si s 2 ((((si s 0 35) + (98 : Int32)) + ((2 : Int32) * x4)) + (1 : Int32)).toNatClampNeg) h
  · have h := of cn1 h
    refine r_aload_n (j := 0) B dX5_reckonAll_66 rfl rfl ?_
    refine g5 (k := 26) B (vr (some 13)) rfl (fun z => by rw [(hS _ z).1 0 (by decide)]; rfl) rfl q1543 rfl (fun z => by rw [(hS _ z).2 _ (List.mem_of_getElem? (i := 12) rfl)]; rfl) dX5_reckonAll_67 ?_
    refine r_iload (j := 3) B dX5_reckonAll_70 rfl ?_
    obtain ⟨hg3, h⟩ := gd_e h
    refine r_iald B rfl (fun z => (hS _ z).1 13 (by decide)) hg3 dX5_reckonAll_72 ?_
    refine r_goto (tgt := 95) B dX5_reckonAll_73 (by decide) ?_
    exact w_X5_reckonAll_95 B hS k10 hk10 s x2 x3 x4 z0 (si s 13 x4.toNatClampNeg) h
set_option maxHeartbeats 4000000 in
noncomputable def F_X5_reckonAll_353 (s : St) (z0 : Int64) : Option (Unit × St) := nam (setL s 0 40 z0) fun s1 => some ((), s1)
set_option maxHeartbeats 4000000 in
theorem w_X5_reckonAll_353 {X : CX} {E : EV} {a0 s' : St} {r : Unit} (B : FX X E cX5_reckonAll 7 none "RoseThrowModel" "reckonAll" (sn a0) (ss a0) 2 46) (hS : ∀ σ, eSk E σ → SkM σ) (s : St) (z0 : Int64) (h : F_X5_reckonAll_353   s z0 = some (r, s')) : J X E (sn a0) (ss a0) 7 (QR X E a0 none s') s 353 [] [vl z0, vr (some 0)] := by
  unfold F_X5_reckonAll_353 at h
  obtain ⟨s1, e2, h⟩ := nam_e h
  refine pL5 (k := 40) B e2 rfl (fun z => by rw [(hS _ z).1 0 (by decide)]; rfl) rfl q1557 rfl rfl rfl dX5_reckonAll_353 ?_
  exact r_vret B dX5_reckonAll_356 h
set_option maxHeartbeats 4000000 in
noncomputable def F_X5_reckonAll_338 (s : St) (x3 : Int32) : Option (Unit × St) := if x3 ≤ 0 then (F_X5_reckonAll_353 s (0 : Int64)) else (gd (inb (0 : Int32) 400) <| F_X5_reckonAll_353 s (sl s 21 (0 : Int32).toNatClampNeg))
set_option maxHeartbeats 4000000 in
theorem w_X5_reckonAll_338 {X : CX} {E : EV} {a0 s' : St} {r : Unit} (B : FX X E cX5_reckonAll 7 none "RoseThrowModel" "reckonAll" (sn a0) (ss a0) 2 46) (hS : ∀ σ, eSk E σ → SkM σ) (s : St) (x3 : Int32) (h : F_X5_reckonAll_338   s x3 = some (r, s')) : J X E (sn a0) (ss a0) 7 (QR X E a0 none s') s 338 [(0, vr (some 0)), (3, vi x3)] [] := by
  unfold F_X5_reckonAll_338 at h
  refine r_aload_n (j := 0) B dX5_reckonAll_338 rfl rfl ?_
  refine r_iload_n (j := 1) B dX5_reckonAll_339 rfl rfl ?_
  refine r_if_le (tgt := 352) B dX5_reckonAll_340 (by decide) (fun cn1 => ?_) (fun cn1 => ?_)
  · have h := ot cn1 h
    refine r_lconst (v := 0) B dX5_reckonAll_352 (by decide) ?_
    refine r_pick [] (L' := []) rfl ?_
    exact w_X5_reckonAll_353 B hS s (0 : Int64) h
  · have h := of cn1 h
    refine r_aload_n (j := 0) B dX5_reckonAll_343 rfl rfl ?_
    refine g5 (k := 38) B (vr (some 21)) rfl (fun z => by rw [(hS _ z).1 0 (by decide)]; rfl) rfl q1555 rfl (fun z => by rw [(hS _ z).2 _ (List.mem_of_getElem? (i := 20) rfl)]; rfl) dX5_reckonAll_344 ?_
    refine r_iconst (v := 0) B dX5_reckonAll_347 (by decide) ?_
    obtain ⟨hg2, h⟩ := gd_e h
    refine r_lald B rfl (fun z => (hS _ z).1 21 (by decide)) hg2 dX5_reckonAll_348 ?_
    refine r_goto (tgt := 353) B dX5_reckonAll_349 (by decide) ?_
    refine r_pick [] (L' := []) rfl ?_
    exact w_X5_reckonAll_353 B hS s (sl s 21 (0 : Int32).toNatClampNeg) h
set_option maxHeartbeats 4000000 in
noncomputable def F_X5_reckonAll_10 : Nat → St → Int32 → Int32 → Int32 → Option (Unit × St)
  | 0 => fun _ _ _ _ => none
  | n + 1 => fun s x2 x3 x4 => if x2 ≤ x4 then (F_X5_reckonAll_338 s x3) else (if (si s 0 39) = 0 then (if (si s 0 21) = 0 then (gd (inb (((si s 0 35) + (98 : Int32)) + ((2 : Int32) * x4)) 5460) <| F_X5_reckonAll_57 (F_X5_reckonAll_10  n) s x2 x3 x4 (si s 2 (((si s 0 35) + (98 : Int32)) + ((2 : Int32) * x4)).toNatClampNeg)) else (gd (inb x4 400) <| F_X5_reckonAll_57 (F_X5_reckonAll_10  n) s x2 x3 x4 (si s 12 x4.toNatClampNeg))) else (F_X5_reckonAll_338 s x3))
set_option maxHeartbeats 4000000 in
theorem w_X5_reckonAll_10 {X : CX} {E : EV} {a0 s' : St} {r : Unit} (B : FX X E cX5_reckonAll 7 none "RoseThrowModel" "reckonAll" (sn a0) (ss a0) 2 46) (hS : ∀ σ, eSk E σ → SkM σ) : ∀ (n : Nat) (s : St) (x2 : Int32) (x3 : Int32) (x4 : Int32), F_X5_reckonAll_10   n s x2 x3 x4 = some (r, s') → J X E (sn a0) (ss a0) 7 (QR X E a0 none s') s 10 [(0, vr (some 0)), (2, vi x2), (3, vi x3), (4, vi x4)] [] := by
  intro n
  induction n with
  | zero => intro s x2 x3 x4 h; exact absurd (show (none : Option (Unit × St)) = _ from h) (by simp)
  | succ n ih =>
    intro s x2 x3 x4 h
    rw [F_X5_reckonAll_10] at h
    refine r_iload (j := 3) B dX5_reckonAll_10 rfl ?_
    refine r_iload_n (j := 1) B dX5_reckonAll_12 rfl rfl ?_
    refine r_ic_ge (tgt := 338) B dX5_reckonAll_13 (by decide) (fun cn1 => ?_) (fun cn1 => ?_)
    · have h := ot cn1 h
      refine r_pick [0, 2] (L' := [(0, vr (some 0)), (3, vi x3)]) rfl ?_
      exact w_X5_reckonAll_338 B hS s x3 h
    · have h := of cn1 h
      refine r_aload_n (j := 0) B dX5_reckonAll_16 rfl rfl ?_
      refine g5 (k := 39) B (vi (si s 0 39)) rfl (fun z => by rw [(hS _ z).1 0 (by decide)]; rfl) rfl q1556 rfl (fun _ => rfl) dX5_reckonAll_17 ?_
      refine r_if_ne (tgt := 338) B dX5_reckonAll_20 (by decide) (fun cn2 => ?_) (fun cn2 => ?_)
      · have h := of cn2 h
        refine r_pick [0, 2] (L' := [(0, vr (some 0)), (3, vi x3)]) rfl ?_
        exact w_X5_reckonAll_338 B hS s x3 h
      · have h := ot cn2 h
        refine r_aload_n (j := 0) B dX5_reckonAll_23 rfl rfl ?_
        refine g5 (k := 21) B (vi (si s 0 21)) rfl (fun z => by rw [(hS _ z).1 0 (by decide)]; rfl) rfl q1538 rfl (fun _ => rfl) dX5_reckonAll_24 ?_
        refine r_if_eq (tgt := 40) B dX5_reckonAll_27 (by decide) (fun cn3 => ?_) (fun cn3 => ?_)
        · have h := ot cn3 h
          refine r_aload_n (j := 0) B dX5_reckonAll_40 rfl rfl ?_
          refine g5 (k := 3) B (vr (some 2)) rfl (fun z => by rw [(hS _ z).1 0 (by decide)]; rfl) rfl q1520 rfl (fun z => by rw [(hS _ z).2 _ (List.mem_of_getElem? (i := 1) rfl)]; rfl) dX5_reckonAll_41 ?_
          refine r_aload_n (j := 0) B dX5_reckonAll_44 rfl rfl ?_
          refine g5 (k := 35) B (vi (si s 0 35)) rfl (fun z => by rw [(hS _ z).1 0 (by decide)]; rfl) rfl q1552 rfl (fun _ => rfl) dX5_reckonAll_45 ?_
          refine r_bipush (v := 98) B dX5_reckonAll_48 (by decide) ?_
          refine r_iadd B dX5_reckonAll_50 ?_
          refine r_iconst (v := 2) B dX5_reckonAll_51 (by decide) ?_
          refine r_iload (j := 3) B dX5_reckonAll_52 rfl ?_
          refine r_imul B dX5_reckonAll_54 ?_
          refine r_iadd B dX5_reckonAll_55 ?_
          obtain ⟨hg4, h⟩ := gd_e h
          refine r_iald B rfl (fun z => (hS _ z).1 2 (by decide)) hg4 dX5_reckonAll_56 ?_
          exact w_X5_reckonAll_57 B hS (F_X5_reckonAll_10  n) ih s x2 x3 x4 (si s 2 (((si s 0 35) + (98 : Int32)) + ((2 : Int32) * x4)).toNatClampNeg) h
        · have h := of cn3 h
          refine r_aload_n (j := 0) B dX5_reckonAll_30 rfl rfl ?_
          refine g5 (k := 25) B (vr (some 12)) rfl (fun z => by rw [(hS _ z).1 0 (by decide)]; rfl) rfl q1542 rfl (fun z => by rw [(hS _ z).2 _ (List.mem_of_getElem? (i := 11) rfl)]; rfl) dX5_reckonAll_31 ?_
          refine r_iload (j := 3) B dX5_reckonAll_34 rfl ?_
          obtain ⟨hg5, h⟩ := gd_e h
          refine r_iald B rfl (fun z => (hS _ z).1 12 (by decide)) hg5 dX5_reckonAll_36 ?_
          refine r_goto (tgt := 57) B dX5_reckonAll_37 (by decide) ?_
          exact w_X5_reckonAll_57 B hS (F_X5_reckonAll_10  n) ih s x2 x3 x4 (si s 12 x4.toNatClampNeg) h
set_option maxHeartbeats 4000000 in
noncomputable def F_X5_reckonAll (s : St) (p0 : Int32) (p1 : Int32) : Option (Unit × St) := nam (setI s 0 39 (0 : Int32)) fun s1 => F_X5_reckonAll_10 FU s1 p1 (0 : Int32) p0
set_option maxHeartbeats 4000000 in
theorem c_X5_reckonAll {l : Launch} {E : EV} (hE : GE E) (hS : ∀ σ, eSk E σ → SkM σ) {s s' : St} {r : Unit} {p0 : Int32} {p1 : Int32} (h : F_X5_reckonAll  s p0 p1 = some (r, s')) : CT l E yX5_reckonAll cX5_reckonAll 7 none 2 46 [vr (some 0), vi p0, vi p1] s none s' := by
  refine CT.start hE (by decide) rfl [(0, vr (some 0)), (1, vi p0), (2, vi p1)] rfl (fun X hX B => ?_)
  skip
  have B : FX X E cX5_reckonAll 7 none "RoseThrowModel" "reckonAll" (sn s) (ss s) 2 46 := B
  unfold F_X5_reckonAll at h
  refine r_aload_n (j := 0) B dX5_reckonAll_0 rfl rfl ?_
  refine r_iconst (v := 0) B dX5_reckonAll_1 (by decide) ?_
  obtain ⟨s1, e2, h⟩ := nam_e h
  refine pI5 (k := 39) B e2 rfl (fun z => by rw [(hS _ z).1 0 (by decide)]; rfl) rfl q1556 rfl rfl (fun _ _ _ => rfl) (by decide) dX5_reckonAll_2 ?_
  refine r_iconst (v := 0) B dX5_reckonAll_5 (by decide) ?_
  refine r_istore_n (L' := [(0, vr (some 0)), (1, vi p0), (2, vi p1), (3, vi (0 : Int32))]) B dX5_reckonAll_6 rfl (by decide) rfl rfl rfl ?_
  refine r_iload_n (j := 1) B dX5_reckonAll_7 rfl rfl ?_
  refine r_istore (L' := [(0, vr (some 0)), (1, vi p0), (2, vi p1), (3, vi (0 : Int32)), (4, vi p0)]) B dX5_reckonAll_8 (by decide) rfl rfl rfl ?_
  refine r_pick [0, 2, 3, 4] (L' := [(0, vr (some 0)), (2, vi p1), (3, vi (0 : Int32)), (4, vi p0)]) rfl ?_
  exact w_X5_reckonAll_10 B hS FU s1 p1 (0 : Int32) p0 h
set_option maxHeartbeats 4000000 in
theorem cw_X5_reckonAll {X : CX} {fr lo : Nat} (h1 : Nat.ble (2 + 1) fr = true) (h2 : Nat.ble (26 + 46) lo = true) : CW X fr lo yX5_reckonAll cX5_reckonAll 7 none 2 46 2 := ⟨q1798, q136, ⟨by decide +kernel, by decide +kernel, by decide +kernel⟩, Nat.le_of_ble_eq_true h1, Nat.le_of_ble_eq_true h2⟩

set_option maxHeartbeats 4000000 in
noncomputable def F_X5_isSo_59 (s : St) (x1 : Int32) : Option (Int32 × St) := gd (inb x1 5460) <| if (si s 2 x1.toNatClampNeg) = (3 : Int32) then (some ((1 : Int32), s)) else (gd (inb (x1 + (3 : Int32)) 5460) <| gd (inb (x1 + (4 : Int32)) 5460) <| bnd (F_X5_reckonAll s (si s 2 (x1 + (3 : Int32)).toNatClampNeg) (si s 2 (x1 + (4 : Int32)).toNatClampNeg)) fun _ s6 => nam (setL s6 0 41 (sl s6 0 40)) fun s8 => if (si s8 0 39) = 0 then (some ((1 : Int32), s8)) else (some ((0 : Int32), s8)))
set_option maxHeartbeats 4000000 in
theorem w_X5_isSo_59 {X : CX} {E : EV} {a0 s' : St} {r : Int32} (B : FX X E cX5_isSo 2 (some .boolean) "RoseThrowModel" "isSo" (sn a0) (ss a0) 3 72) (hS : ∀ σ, eSk E σ → SkM σ) (s : St) (x1 : Int32) (h : F_X5_isSo_59   s x1 = some (r, s')) : J X E (sn a0) (ss a0) 2 (QR X E a0 (some (vi r)) s') s 59 [(0, vr (some 0)), (1, vi x1)] [] := by
  unfold F_X5_isSo_59 at h
  refine r_aload_n (j := 0) B dX5_isSo_59 rfl rfl ?_
  refine g5 (k := 3) B (vr (some 2)) rfl (fun z => by rw [(hS _ z).1 0 (by decide)]; rfl) rfl q1520 rfl (fun z => by rw [(hS _ z).2 _ (List.mem_of_getElem? (i := 1) rfl)]; rfl) dX5_isSo_60 ?_
  refine r_iload_n (j := 1) B dX5_isSo_63 rfl rfl ?_
  obtain ⟨hg1, h⟩ := gd_e h
  refine r_iald B rfl (fun z => (hS _ z).1 2 (by decide)) hg1 dX5_isSo_64 ?_
  refine r_iconst (v := 3) B dX5_isSo_65 (by decide) ?_
  refine r_ic_eq (tgt := 110) B dX5_isSo_66 (by decide) (fun cn2 => ?_) (fun cn2 => ?_)
  · have h := ot cn2 h
    refine r_iconst (v := 1) B dX5_isSo_110 (by decide) ?_
    exact r_zret B dX5_isSo_111 (by decide) h
  · have h := of cn2 h
    refine r_aload_n (j := 0) B dX5_isSo_69 rfl rfl ?_
    refine r_aload_n (j := 0) B dX5_isSo_70 rfl rfl ?_
    refine g5 (k := 3) B (vr (some 2)) rfl (fun z => by rw [(hS _ z).1 0 (by decide)]; rfl) rfl q1520 rfl (fun z => by rw [(hS _ z).2 _ (List.mem_of_getElem? (i := 1) rfl)]; rfl) dX5_isSo_71 ?_
    refine r_iload_n (j := 1) B dX5_isSo_74 rfl rfl ?_
    refine r_iconst (v := 3) B dX5_isSo_75 (by decide) ?_
    refine r_iadd B dX5_isSo_76 ?_
    obtain ⟨hg3, h⟩ := gd_e h
    refine r_iald B rfl (fun z => (hS _ z).1 2 (by decide)) hg3 dX5_isSo_77 ?_
    refine r_aload_n (j := 0) B dX5_isSo_78 rfl rfl ?_
    refine g5 (k := 3) B (vr (some 2)) rfl (fun z => by rw [(hS _ z).1 0 (by decide)]; rfl) rfl q1520 rfl (fun z => by rw [(hS _ z).2 _ (List.mem_of_getElem? (i := 1) rfl)]; rfl) dX5_isSo_79 ?_
    refine r_iload_n (j := 1) B dX5_isSo_82 rfl rfl ?_
    refine r_iconst (v := 4) B dX5_isSo_83 (by decide) ?_
    refine r_iadd B dX5_isSo_84 ?_
    obtain ⟨hg4, h⟩ := gd_e h
    refine r_iald B rfl (fun z => (hS _ z).1 2 (by decide)) hg4 dX5_isSo_85 ?_
    obtain ⟨r5, s6, hc7, h⟩ := bnd_e h
    refine r_callV0 (As := [vi (si s 2 (x1 + (3 : Int32)).toNatClampNeg), vi (si s 2 (x1 + (4 : Int32)).toNatClampNeg)]) (rest := []) B rfl rfl EX.same (c_X5_reckonAll B.ge hS hc7) (cw_X5_reckonAll rfl rfl) (fun z => RV.of 5 ((fun z => by rw [(hS _ z).1 0 (by decide)]; rfl) z) rfl rfl qs59) q1795 q1797 rfl dX5_isSo_86 ?_
    refine r_aload_n (j := 0) B dX5_isSo_89 rfl rfl ?_
    refine r_aload_n (j := 0) B dX5_isSo_90 rfl rfl ?_
    refine g5 (k := 40) B (vl (sl s6 0 40)) rfl (fun z => by rw [(hS _ z).1 0 (by decide)]; rfl) rfl q1557 rfl (fun _ => rfl) dX5_isSo_91 ?_
    obtain ⟨s8, e9, h⟩ := nam_e h
    refine pL5 (k := 41) B e9 rfl (fun z => by rw [(hS _ z).1 0 (by decide)]; rfl) rfl q1558 rfl rfl rfl dX5_isSo_94 ?_
    refine r_aload_n (j := 0) B dX5_isSo_97 rfl rfl ?_
    refine g5 (k := 39) B (vi (si s8 0 39)) rfl (fun z => by rw [(hS _ z).1 0 (by decide)]; rfl) rfl q1556 rfl (fun _ => rfl) dX5_isSo_98 ?_
    refine r_if_ne (tgt := 108) B dX5_isSo_101 (by decide) (fun cn10 => ?_) (fun cn10 => ?_)
    · have h := of cn10 h
      refine r_iconst (v := 0) B dX5_isSo_108 (by decide) ?_
      exact r_zret B dX5_isSo_109 (by decide) h
    · have h := ot cn10 h
      refine r_iconst (v := 1) B dX5_isSo_104 (by decide) ?_
      refine r_goto (tgt := 109) B dX5_isSo_105 (by decide) ?_
      exact r_zret B dX5_isSo_109 (by decide) h
set_option maxHeartbeats 4000000 in
noncomputable def F_X5_isSo (s : St) (p0 : Int32) : Option (Int32 × St) := gd (inb (p0 + (5 : Int32)) 5460) <| gd (inb (p0 + (6 : Int32)) 5460) <| if (si s 2 (p0 + (6 : Int32)).toNatClampNeg) ≤ (si s 2 (p0 + (5 : Int32)).toNatClampNeg) then (F_X5_isSo_59 s p0) else (gd (inb (p0 + (5 : Int32)) 5460) <| gd (inb (p0 + (6 : Int32)) 5460) <| bnd (F_X5_reckonAll s (si s 2 (p0 + (5 : Int32)).toNatClampNeg) (si s 2 (p0 + (6 : Int32)).toNatClampNeg)) fun _ s7 => if (si s7 0 39) = 0 then (if (sl s7 0 40) = (0 : Int64) then (some ((0 : Int32), s7)) else (F_X5_isSo_59 s7 p0)) else (some ((0 : Int32), s7)))
set_option maxHeartbeats 4000000 in
theorem c_X5_isSo {l : Launch} {E : EV} (hE : GE E) (hS : ∀ σ, eSk E σ → SkM σ) {s s' : St} {r : Int32} {p0 : Int32} (h : F_X5_isSo  s p0 = some (r, s')) : CT l E yX5_isSo cX5_isSo 2 (some .boolean) 3 72 [vr (some 0), vi p0] s (some (vi r)) s' := by
  refine CT.start hE (by decide) rfl [(0, vr (some 0)), (1, vi p0)] rfl (fun X hX B => ?_)
  skip
  have B : FX X E cX5_isSo 2 (some .boolean) "RoseThrowModel" "isSo" (sn s) (ss s) 3 72 := B
  unfold F_X5_isSo at h
  refine r_aload_n (j := 0) B dX5_isSo_0 rfl rfl ?_
  refine g5 (k := 3) B (vr (some 2)) rfl (fun z => by rw [(hS _ z).1 0 (by decide)]; rfl) rfl q1520 rfl (fun z => by rw [(hS _ z).2 _ (List.mem_of_getElem? (i := 1) rfl)]; rfl) dX5_isSo_1 ?_
  refine r_iload_n (j := 1) B dX5_isSo_4 rfl rfl ?_
  refine r_iconst (v := 5) B dX5_isSo_5 (by decide) ?_
  refine r_iadd B dX5_isSo_6 ?_
  obtain ⟨hg1, h⟩ := gd_e h
  refine r_iald B rfl (fun z => (hS _ z).1 2 (by decide)) hg1 dX5_isSo_7 ?_
  refine r_aload_n (j := 0) B dX5_isSo_8 rfl rfl ?_
  refine g5 (k := 3) B (vr (some 2)) rfl (fun z => by rw [(hS _ z).1 0 (by decide)]; rfl) rfl q1520 rfl (fun z => by rw [(hS _ z).2 _ (List.mem_of_getElem? (i := 1) rfl)]; rfl) dX5_isSo_9 ?_
  refine r_iload_n (j := 1) B dX5_isSo_12 rfl rfl ?_
  refine r_bipush (v := 6) B dX5_isSo_13 (by decide) ?_
  refine r_iadd B dX5_isSo_15 ?_
  obtain ⟨hg2, h⟩ := gd_e h
  refine r_iald B rfl (fun z => (hS _ z).1 2 (by decide)) hg2 dX5_isSo_16 ?_
  refine r_ic_ge (tgt := 59) B dX5_isSo_17 (by decide) (fun cn3 => ?_) (fun cn3 => ?_)
  · have h := ot cn3 h
    exact w_X5_isSo_59 B hS s p0 h
  · have h := of cn3 h
    refine r_aload_n (j := 0) B dX5_isSo_20 rfl rfl ?_
    refine r_aload_n (j := 0) B dX5_isSo_21 rfl rfl ?_
    refine g5 (k := 3) B (vr (some 2)) rfl (fun z => by rw [(hS _ z).1 0 (by decide)]; rfl) rfl q1520 rfl (fun z => by rw [(hS _ z).2 _ (List.mem_of_getElem? (i := 1) rfl)]; rfl) dX5_isSo_22 ?_
    refine r_iload_n (j := 1) B dX5_isSo_25 rfl rfl ?_
    refine r_iconst (v := 5) B dX5_isSo_26 (by decide) ?_
    refine r_iadd B dX5_isSo_27 ?_
    obtain ⟨hg4, h⟩ := gd_e h
    refine r_iald B rfl (fun z => (hS _ z).1 2 (by decide)) hg4 dX5_isSo_28 ?_
    refine r_aload_n (j := 0) B dX5_isSo_29 rfl rfl ?_
    refine g5 (k := 3) B (vr (some 2)) rfl (fun z => by rw [(hS _ z).1 0 (by decide)]; rfl) rfl q1520 rfl (fun z => by rw [(hS _ z).2 _ (List.mem_of_getElem? (i := 1) rfl)]; rfl) dX5_isSo_30 ?_
    refine r_iload_n (j := 1) B dX5_isSo_33 rfl rfl ?_
    refine r_bipush (v := 6) B dX5_isSo_34 (by decide) ?_
    refine r_iadd B dX5_isSo_36 ?_
    obtain ⟨hg5, h⟩ := gd_e h
    refine r_iald B rfl (fun z => (hS _ z).1 2 (by decide)) hg5 dX5_isSo_37 ?_
    obtain ⟨r6, s7, hc8, h⟩ := bnd_e h
    refine r_callV0 (As := [vi (si s 2 (p0 + (5 : Int32)).toNatClampNeg), vi (si s 2 (p0 + (6 : Int32)).toNatClampNeg)]) (rest := []) B rfl rfl EX.same (c_X5_reckonAll B.ge hS hc8) (cw_X5_reckonAll rfl rfl) (fun z => RV.of 5 ((fun z => by rw [(hS _ z).1 0 (by decide)]; rfl) z) rfl rfl qs59) q1795 q1797 rfl dX5_isSo_38 ?_
    refine r_aload_n (j := 0) B dX5_isSo_41 rfl rfl ?_
    refine g5 (k := 39) B (vi (si s7 0 39)) rfl (fun z => by rw [(hS _ z).1 0 (by decide)]; rfl) rfl q1556 rfl (fun _ => rfl) dX5_isSo_42 ?_
    refine r_if_ne (tgt := 57) B dX5_isSo_45 (by decide) (fun cn9 => ?_) (fun cn9 => ?_)
    · have h := of cn9 h
      refine r_iconst (v := 0) B dX5_isSo_57 (by decide) ?_
      exact r_zret B dX5_isSo_58 (by decide) h
    · have h := ot cn9 h
      refine r_aload_n (j := 0) B dX5_isSo_48 rfl rfl ?_
      refine g5 (k := 40) B (vl (sl s7 0 40)) rfl (fun z => by rw [(hS _ z).1 0 (by decide)]; rfl) rfl q1557 rfl (fun _ => rfl) dX5_isSo_49 ?_
      refine r_lconst (v := 0) B dX5_isSo_52 (by decide) ?_
      refine r_lcmp B dX5_isSo_53 ?_
      refine r_if_ne (tgt := 59) B dX5_isSo_54 (by decide) (fun cn10 => ?_) (fun cn10 => ?_)
      · have h := of (fun z => cn10 (lc_eq.mpr z)) h
        exact w_X5_isSo_59 B hS s7 p0 h
      · have h := ot (lc_eq.mp cn10) h
        refine r_iconst (v := 0) B dX5_isSo_57 (by decide) ?_
        exact r_zret B dX5_isSo_58 (by decide) h
set_option maxHeartbeats 4000000 in
theorem cw_X5_isSo {X : CX} {fr lo : Nat} (h1 : Nat.ble (3 + 1) fr = true) (h2 : Nat.ble (21 + 72) lo = true) : CW X fr lo yX5_isSo cX5_isSo 2 (some .boolean) 3 72 1 := ⟨q1794, q136, ⟨by decide +kernel, by decide +kernel, by decide +kernel⟩, Nat.le_of_ble_eq_true h1, Nat.le_of_ble_eq_true h2⟩

set_option maxHeartbeats 4000000 in
noncomputable def F_X5_tells_98 (k35 : St → Int32 → Int64 → Int32 → Option (Int64 × St)) (s : St) (x1 : Int32) (x6 : Int32) (z0 : Int64) : Option (Int64 × St) := k35 s x1 z0 (x6 + (1))
set_option maxHeartbeats 4000000 in
theorem w_X5_tells_98 {X : CX} {E : EV} {a0 s' : St} {r : Int64} (B : FX X E cX5_tells 8 (some .long) "RoseThrowModel" "tells" (sn a0) (ss a0) 4 93) (hS : ∀ σ, eSk E σ → SkM σ) (k35 : St → Int32 → Int64 → Int32 → Option (Int64 × St)) (hk35 : ∀ (s : St) (x1 : Int32) (x4 : Int64) (x6 : Int32), k35 s x1 x4 x6 = some (r, s') → J X E (sn a0) (ss a0) 8 (QR X E a0 (some (vl r)) s') s 35 [(0, vr (some 0)), (1, vi x1), (4, vl x4), (6, vi x6)] []) (s : St) (x1 : Int32) (x6 : Int32) (z0 : Int64) (h : F_X5_tells_98  k35 s x1 x6 z0 = some (r, s')) : J X E (sn a0) (ss a0) 8 (QR X E a0 (some (vl r)) s') s 98 [(0, vr (some 0)), (1, vi x1), (6, vi x6)] [vl z0] := by
  unfold F_X5_tells_98 at h
  refine r_lstore (L' := [(0, vr (some 0)), (1, vi x1), (4, vl z0), (6, vi x6)]) B dX5_tells_98 (by decide) rfl rfl rfl ?_
  refine r_iinc (j := 3) (v := (x6 + (1))) (L' := [(0, vr (some 0)), (1, vi x1), (4, vl z0), (6, vi (x6 + (1)))]) B dX5_tells_100 rfl rfl (by decide) rfl rfl rfl ?_
  refine r_goto (tgt := 35) B dX5_tells_103 (by decide) ?_
  exact hk35 s x1 z0 (x6 + (1)) h
set_option maxHeartbeats 4000000 in
noncomputable def F_X5_tells_35 : Nat → St → Int32 → Int64 → Int32 → Option (Int64 × St)
  | 0 => fun _ _ _ _ => none
  | n + 1 => fun s x1 x4 x6 => gd (inb ((si s 0 35) + (1 : Int32)) 5460) <| if (si s 2 ((si s 0 35) + (1 : Int32)).toNatClampNeg) ≤ x6 then (some (x4, s)) else (nam (((si s 0 35) + (2 : Int32)) + ((8 : Int32) * x6)) fun y3 => gd (inb y3 5460) <| if (si s 2 y3.toNatClampNeg) = x1 then (bnd (F_X5_isSo s y3) fun r7 s8 => if r7 = 0 then (F_X5_tells_35  n s8 x1 x4 (x6 + (1))) else (if x1 = (3 : Int32) then (F_X5_tells_98 (F_X5_tells_35  n) s8 x1 x6 (1 : Int64)) else (F_X5_tells_98 (F_X5_tells_35  n) s8 x1 x6 (sl s8 0 41)))) else (F_X5_tells_35  n s x1 x4 (x6 + (1))))
set_option maxHeartbeats 4000000 in
theorem w_X5_tells_35 {X : CX} {E : EV} {a0 s' : St} {r : Int64} (B : FX X E cX5_tells 8 (some .long) "RoseThrowModel" "tells" (sn a0) (ss a0) 4 93) (hS : ∀ σ, eSk E σ → SkM σ) : ∀ (n : Nat) (s : St) (x1 : Int32) (x4 : Int64) (x6 : Int32), F_X5_tells_35   n s x1 x4 x6 = some (r, s') → J X E (sn a0) (ss a0) 8 (QR X E a0 (some (vl r)) s') s 35 [(0, vr (some 0)), (1, vi x1), (4, vl x4), (6, vi x6)] [] := by
  intro n
  induction n with
  | zero => intro s x1 x4 x6 h; exact absurd (show (none : Option (Int64 × St)) = _ from h) (by simp)
  | succ n ih =>
    intro s x1 x4 x6 h
    rw [F_X5_tells_35] at h
    refine r_iload (j := 3) B dX5_tells_35 rfl ?_
    refine r_aload_n (j := 0) B dX5_tells_37 rfl rfl ?_
    refine g5 (k := 3) B (vr (some 2)) rfl (fun z => by rw [(hS _ z).1 0 (by decide)]; rfl) rfl q1520 rfl (fun z => by rw [(hS _ z).2 _ (List.mem_of_getElem? (i := 1) rfl)]; rfl) dX5_tells_38 ?_
    refine r_aload_n (j := 0) B dX5_tells_41 rfl rfl ?_
    refine g5 (k := 35) B (vi (si s 0 35)) rfl (fun z => by rw [(hS _ z).1 0 (by decide)]; rfl) rfl q1552 rfl (fun _ => rfl) dX5_tells_42 ?_
    refine r_iconst (v := 1) B dX5_tells_45 (by decide) ?_
    refine r_iadd B dX5_tells_46 ?_
    obtain ⟨hg1, h⟩ := gd_e h
    refine r_iald B rfl (fun z => (hS _ z).1 2 (by decide)) hg1 dX5_tells_47 ?_
    refine r_ic_ge (tgt := 106) B dX5_tells_48 (by decide) (fun cn2 => ?_) (fun cn2 => ?_)
    · have h := ot cn2 h
      refine r_lload (j := 2) B dX5_tells_106 rfl ?_
      exact r_lret B dX5_tells_108 h
    · have h := of cn2 h
      refine r_aload_n (j := 0) B dX5_tells_51 rfl rfl ?_
      refine g5 (k := 35) B (vi (si s 0 35)) rfl (fun z => by rw [(hS _ z).1 0 (by decide)]; rfl) rfl q1552 rfl (fun _ => rfl) dX5_tells_52 ?_
      refine r_iconst (v := 2) B dX5_tells_55 (by decide) ?_
      refine r_iadd B dX5_tells_56 ?_
      refine r_bipush (v := 8) B dX5_tells_57 (by decide) ?_
      refine r_iload (j := 3) B dX5_tells_59 rfl ?_
      refine r_imul B dX5_tells_61 ?_
      refine r_iadd B dX5_tells_62 ?_
      obtain ⟨y3, e4, h⟩ := nam_e h
      refine r_topi e4 ?_
      refine r_istore (L' := [(0, vr (some 0)), (1, vi x1), (4, vl x4), (6, vi x6), (7, vi y3)]) B dX5_tells_63 (by decide) rfl rfl rfl ?_
      refine r_aload_n (j := 0) B dX5_tells_65 rfl rfl ?_
      refine g5 (k := 3) B (vr (some 2)) rfl (fun z => by rw [(hS _ z).1 0 (by decide)]; rfl) rfl q1520 rfl (fun z => by rw [(hS _ z).2 _ (List.mem_of_getElem? (i := 1) rfl)]; rfl) dX5_tells_66 ?_
      refine r_iload (j := 4) B dX5_tells_69 rfl ?_
      obtain ⟨hg5, h⟩ := gd_e h
      refine r_iald B rfl (fun z => (hS _ z).1 2 (by decide)) hg5 dX5_tells_71 ?_
      refine r_iload_n (j := 1) B dX5_tells_72 rfl rfl ?_
      refine r_ic_ne (tgt := 100) B dX5_tells_73 (by decide) (fun cn6 => ?_) (fun cn6 => ?_)
      · have h := of cn6 h
        refine r_iinc (j := 3) (v := (x6 + (1))) (L' := [(0, vr (some 0)), (1, vi x1), (4, vl x4), (6, vi (x6 + (1))), (7, vi y3)]) B dX5_tells_100 rfl rfl (by decide) rfl rfl rfl ?_
        refine r_goto (tgt := 35) B dX5_tells_103 (by decide) ?_
        refine r_pick [0, 1, 2, 3] (L' := [(0, vr (some 0)), (1, vi x1), (4, vl x4), (6, vi (x6 + (1)))]) rfl ?_
        exact ih s x1 x4 (x6 + (1)) h
      · have h := ot cn6 h
        refine r_aload_n (j := 0) B dX5_tells_76 rfl rfl ?_
        refine r_iload (j := 4) B dX5_tells_77 rfl ?_
        obtain ⟨r7, s8, hc9, h⟩ := bnd_e h
        refine r_callVv (As := [vi y3]) (rest := []) B rfl rfl EX.same (c_X5_isSo B.ge hS hc9) (cw_X5_isSo rfl rfl) (fun z => RV.of 5 ((fun z => by rw [(hS _ z).1 0 (by decide)]; rfl) z) rfl rfl qs58) q1791 q1793 rfl dX5_tells_79 ?_
        refine r_if_eq (tgt := 100) B dX5_tells_82 (by decide) (fun cn10 => ?_) (fun cn10 => ?_)
        · have h := ot cn10 h
          refine r_iinc (j := 3) (v := (x6 + (1))) (L' := [(0, vr (some 0)), (1, vi x1), (4, vl x4), (6, vi (x6 + (1))), (7, vi y3)]) B dX5_tells_100 rfl rfl (by decide) rfl rfl rfl ?_
          refine r_goto (tgt := 35) B dX5_tells_103 (by decide) ?_
          refine r_pick [0, 1, 2, 3] (L' := [(0, vr (some 0)), (1, vi x1), (4, vl x4), (6, vi (x6 + (1)))]) rfl ?_
          exact ih s8 x1 x4 (x6 + (1)) h
        · have h := of cn10 h
          refine r_iload_n (j := 1) B dX5_tells_85 rfl rfl ?_
          refine r_iconst (v := 3) B dX5_tells_86 (by decide) ?_
          refine r_ic_ne (tgt := 94) B dX5_tells_87 (by decide) (fun cn11 => ?_) (fun cn11 => ?_)
          · have h := of cn11 h
            refine r_aload_n (j := 0) B dX5_tells_94 rfl rfl ?_
            refine g5 (k := 41) B (vl (sl s8 0 41)) rfl (fun z => by rw [(hS _ z).1 0 (by decide)]; rfl) rfl q1558 rfl (fun _ => rfl) dX5_tells_95 ?_
            refine r_pick [0, 1, 3] (L' := [(0, vr (some 0)), (1, vi x1), (6, vi x6)]) rfl ?_
            exact w_X5_tells_98 B hS (F_X5_tells_35  n) ih s8 x1 x6 (sl s8 0 41) h
          · have h := ot cn11 h
            refine r_lconst (v := 1) B dX5_tells_90 (by decide) ?_
            refine r_goto (tgt := 98) B dX5_tells_91 (by decide) ?_
            refine r_pick [0, 1, 3] (L' := [(0, vr (some 0)), (1, vi x1), (6, vi x6)]) rfl ?_
            exact w_X5_tells_98 B hS (F_X5_tells_35  n) ih s8 x1 x6 (1 : Int64) h
set_option maxHeartbeats 4000000 in
noncomputable def F_X5_tells (s : St) (p0 : Int32) (p1 : Int64) : Option (Int64 × St) := gd (inb (3 : Int32) 5460) <| if (si s 2 (3 : Int32).toNatClampNeg) = (-1 : Int32) then (some (p1, s)) else (gd (inb (3 : Int32) 5460) <| nam (setI s 0 35 ((60 : Int32) + ((900 : Int32) * (si s 2 (3 : Int32).toNatClampNeg)))) fun s4 => F_X5_tells_35 FU s4 p0 p1 (0 : Int32))
set_option maxHeartbeats 4000000 in
theorem c_X5_tells {l : Launch} {E : EV} (hE : GE E) (hS : ∀ σ, eSk E σ → SkM σ) {s s' : St} {r : Int64} {p0 : Int32} {p1 : Int64} (h : F_X5_tells  s p0 p1 = some (r, s')) : CT l E yX5_tells cX5_tells 8 (some .long) 4 93 [vr (some 0), vi p0, vl p1] s (some (vl r)) s' := by
  refine CT.start hE (by decide) rfl [(0, vr (some 0)), (1, vi p0), (2, vl p1)] rfl (fun X hX B => ?_)
  skip
  have B : FX X E cX5_tells 8 (some .long) "RoseThrowModel" "tells" (sn s) (ss s) 4 93 := B
  unfold F_X5_tells at h
  refine r_aload_n (j := 0) B dX5_tells_0 rfl rfl ?_
  refine g5 (k := 3) B (vr (some 2)) rfl (fun z => by rw [(hS _ z).1 0 (by decide)]; rfl) rfl q1520 rfl (fun z => by rw [(hS _ z).2 _ (List.mem_of_getElem? (i := 1) rfl)]; rfl) dX5_tells_1 ?_
  refine r_iconst (v := 3) B dX5_tells_4 (by decide) ?_
  obtain ⟨hg1, h⟩ := gd_e h
  refine r_iald B rfl (fun z => (hS _ z).1 2 (by decide)) hg1 dX5_tells_5 ?_
  refine r_iconst (v := -1) B dX5_tells_6 (by decide) ?_
  refine r_ic_ne (tgt := 12) B dX5_tells_7 (by decide) (fun cn2 => ?_) (fun cn2 => ?_)
  · have h := of cn2 h
    refine r_aload_n (j := 0) B dX5_tells_12 rfl rfl ?_
    refine r_bipush (v := 60) B dX5_tells_13 (by decide) ?_
    refine r_sipush (v := 900) B dX5_tells_15 (by decide) ?_
    refine r_aload_n (j := 0) B dX5_tells_18 rfl rfl ?_
    refine g5 (k := 3) B (vr (some 2)) rfl (fun z => by rw [(hS _ z).1 0 (by decide)]; rfl) rfl q1520 rfl (fun z => by rw [(hS _ z).2 _ (List.mem_of_getElem? (i := 1) rfl)]; rfl) dX5_tells_19 ?_
    refine r_iconst (v := 3) B dX5_tells_22 (by decide) ?_
    obtain ⟨hg3, h⟩ := gd_e h
    refine r_iald B rfl (fun z => (hS _ z).1 2 (by decide)) hg3 dX5_tells_23 ?_
    refine r_imul B dX5_tells_24 ?_
    refine r_iadd B dX5_tells_25 ?_
    obtain ⟨s4, e5, h⟩ := nam_e h
    refine pI5 (k := 35) B e5 rfl (fun z => by rw [(hS _ z).1 0 (by decide)]; rfl) rfl q1552 rfl rfl (fun _ _ _ => rfl) rfl dX5_tells_26 ?_
    refine r_lload_n (j := 2) B dX5_tells_29 rfl rfl ?_
    refine r_lstore (L' := [(0, vr (some 0)), (1, vi p0), (2, vl p1), (4, vl p1)]) B dX5_tells_30 (by decide) rfl rfl rfl ?_
    refine r_iconst (v := 0) B dX5_tells_32 (by decide) ?_
    refine r_istore (L' := [(0, vr (some 0)), (1, vi p0), (2, vl p1), (4, vl p1), (6, vi (0 : Int32))]) B dX5_tells_33 (by decide) rfl rfl rfl ?_
    refine r_pick [0, 1, 3, 4] (L' := [(0, vr (some 0)), (1, vi p0), (4, vl p1), (6, vi (0 : Int32))]) rfl ?_
    exact w_X5_tells_35 B hS FU s4 p0 p1 (0 : Int32) h
  · have h := ot cn2 h
    refine r_lload_n (j := 2) B dX5_tells_10 rfl rfl ?_
    exact r_lret B dX5_tells_11 h
set_option maxHeartbeats 4000000 in
theorem cw_X5_tells {X : CX} {fr lo : Nat} (h1 : Nat.ble (4 + 1) fr = true) (h2 : Nat.ble (27 + 93) lo = true) : CW X fr lo yX5_tells cX5_tells 8 (some .long) 4 93 2 := ⟨q1790, q136, ⟨by decide +kernel, by decide +kernel, by decide +kernel⟩, Nat.le_of_ble_eq_true h1, Nat.le_of_ble_eq_true h2⟩

set_option maxHeartbeats 4000000 in
noncomputable def F_X5_isBarredBy (s : St) (p0 : Int32) (p1 : Int32) (p2 : Int32) (p3 : Int32) : Option (Int32 × St) := bnd (F_X5_setCatcher s p0 p1 p2) fun _ s2 => gd (inb (12 : Int32) 15) <| nam (setL s2 19 (12 : Int32).toNatClampNeg (((p3 - p3 / (6 : Int32) * (6 : Int32))).toInt64)) fun s5 => gd (inb (13 : Int32) 15) <| nam (setL s5 19 (13 : Int32).toNatClampNeg (((p3 / (6 : Int32))).toInt64)) fun s8 => bnd (F_X5_tells s8 (3 : Int32) (0 : Int64)) fun r10 s11 => if r10 = (1 : Int64) then (some ((1 : Int32), s11)) else (some ((0 : Int32), s11))
set_option maxHeartbeats 4000000 in
theorem c_X5_isBarredBy {l : Launch} {E : EV} (hE : GE E) (hS : ∀ σ, eSk E σ → SkM σ) {s s' : St} {r : Int32} {p0 : Int32} {p1 : Int32} {p2 : Int32} {p3 : Int32} (h : F_X5_isBarredBy  s p0 p1 p2 p3 = some (r, s')) : CT l E yX5_isBarredBy cX5_isBarredBy 5 (some .boolean) 5 120 [vr (some 0), vi p0, vi p1, vi p2, vi p3] s (some (vi r)) s' := by
  refine CT.start hE (by decide) rfl [(0, vr (some 0)), (1, vi p0), (2, vi p1), (3, vi p2), (4, vi p3)] rfl (fun X hX B => ?_)
  skip
  have B : FX X E cX5_isBarredBy 5 (some .boolean) "RoseThrowModel" "isBarredBy" (sn s) (ss s) 5 120 := B
  unfold F_X5_isBarredBy at h
  refine r_aload_n (j := 0) B dX5_isBarredBy_0 rfl rfl ?_
  refine r_iload_n (j := 1) B dX5_isBarredBy_1 rfl rfl ?_
  refine r_iload_n (j := 2) B dX5_isBarredBy_2 rfl rfl ?_
  refine r_iload_n (j := 3) B dX5_isBarredBy_3 rfl rfl ?_
  obtain ⟨r1, s2, hc3, h⟩ := bnd_e h
  refine r_callV0 (As := [vi p0, vi p1, vi p2]) (rest := []) B rfl rfl EX.same (c_X5_setCatcher B.ge hS hc3) (cw_X5_setCatcher rfl rfl) (fun z => RV.of 5 ((fun z => by rw [(hS _ z).1 0 (by decide)]; rfl) z) rfl rfl qs54) q1774 q1776 rfl dX5_isBarredBy_4 ?_
  refine r_aload_n (j := 0) B dX5_isBarredBy_7 rfl rfl ?_
  refine g5 (k := 36) B (vr (some 19)) rfl (fun z => by rw [(hS _ z).1 0 (by decide)]; rfl) rfl q1553 rfl (fun z => by rw [(hS _ z).2 _ (List.mem_of_getElem? (i := 18) rfl)]; rfl) dX5_isBarredBy_8 ?_
  refine r_bipush (v := 12) B dX5_isBarredBy_11 (by decide) ?_
  refine r_iload (j := 4) B dX5_isBarredBy_13 rfl ?_
  refine r_bipush (v := 6) B dX5_isBarredBy_15 (by decide) ?_
  refine r_irem B dX5_isBarredBy_17 (by decide) ?_
  refine r_i2l B dX5_isBarredBy_18 ?_
  obtain ⟨hg4, h⟩ := gd_e h
  obtain ⟨s5, e6, h⟩ := nam_e h
  refine r_last B e6 rfl (fun z => (hS _ z).1 19 (by decide)) hg4 dX5_isBarredBy_19 ?_
  refine r_aload_n (j := 0) B dX5_isBarredBy_20 rfl rfl ?_
  refine g5 (k := 36) B (vr (some 19)) rfl (fun z => by rw [(hS _ z).1 0 (by decide)]; rfl) rfl q1553 rfl (fun z => by rw [(hS _ z).2 _ (List.mem_of_getElem? (i := 18) rfl)]; rfl) dX5_isBarredBy_21 ?_
  refine r_bipush (v := 13) B dX5_isBarredBy_24 (by decide) ?_
  refine r_iload (j := 4) B dX5_isBarredBy_26 rfl ?_
  refine r_bipush (v := 6) B dX5_isBarredBy_28 (by decide) ?_
  refine r_idiv B dX5_isBarredBy_30 (by decide) ?_
  refine r_i2l B dX5_isBarredBy_31 ?_
  obtain ⟨hg7, h⟩ := gd_e h
  obtain ⟨s8, e9, h⟩ := nam_e h
  refine r_last B e9 rfl (fun z => (hS _ z).1 19 (by decide)) hg7 dX5_isBarredBy_32 ?_
  refine r_aload_n (j := 0) B dX5_isBarredBy_33 rfl rfl ?_
  refine r_iconst (v := 3) B dX5_isBarredBy_34 (by decide) ?_
  refine r_lconst (v := 0) B dX5_isBarredBy_35 (by decide) ?_
  obtain ⟨r10, s11, hc12, h⟩ := bnd_e h
  refine r_callVv (As := [vi (3 : Int32), vl (0 : Int64)]) (rest := []) B rfl rfl EX.same (c_X5_tells B.ge hS hc12) (cw_X5_tells rfl rfl) (fun z => RV.of 5 ((fun z => by rw [(hS _ z).1 0 (by decide)]; rfl) z) rfl rfl qs57) q1787 q1789 rfl dX5_isBarredBy_36 ?_
  refine r_lconst (v := 1) B dX5_isBarredBy_39 (by decide) ?_
  refine r_lcmp B dX5_isBarredBy_40 ?_
  refine r_if_ne (tgt := 48) B dX5_isBarredBy_41 (by decide) (fun cn13 => ?_) (fun cn13 => ?_)
  · have h := of (fun z => cn13 (lc_eq.mpr z)) h
    refine r_iconst (v := 0) B dX5_isBarredBy_48 (by decide) ?_
    exact r_zret B dX5_isBarredBy_49 (by decide) h
  · have h := ot (lc_eq.mp cn13) h
    refine r_iconst (v := 1) B dX5_isBarredBy_44 (by decide) ?_
    refine r_goto (tgt := 49) B dX5_isBarredBy_45 (by decide) ?_
    exact r_zret B dX5_isBarredBy_49 (by decide) h
set_option maxHeartbeats 4000000 in
theorem cw_X5_isBarredBy {X : CX} {fr lo : Nat} (h1 : Nat.ble (5 + 1) fr = true) (h2 : Nat.ble (24 + 120) lo = true) : CW X fr lo yX5_isBarredBy cX5_isBarredBy 5 (some .boolean) 5 120 4 := ⟨q1773, q136, ⟨by decide +kernel, by decide +kernel, by decide +kernel⟩, Nat.le_of_ble_eq_true h1, Nat.le_of_ble_eq_true h2⟩

set_option maxHeartbeats 4000000 in
noncomputable def F_X5_catcher1 (s : St) (p0 : Int32) (p1 : Int32) (p2 : Int32) (p3 : Int32) : Option (Int32 × St) := bnd (F_X5_isCell s p0) fun r1 s2 => if r1 = 0 then (some ((-1 : Int32), s2)) else (bnd (F_X5_in s2 ((p1).toInt64) (0 : Int64) (3 : Int64)) fun r5 s6 => if r5 = 0 then (some ((-1 : Int32), s6)) else (bnd (F_X5_in s6 ((p2).toInt64) (-9 : Int64) (9 : Int64)) fun r9 s10 => if r9 = 0 then (some ((-1 : Int32), s10)) else (bnd (F_X5_in s10 ((p3).toInt64) (1 : Int64) (9 : Int64)) fun r13 s14 => if r13 = 0 then (some ((-1 : Int32), s14)) else (gd (inb (0 : Int32) 5460) <| nam (si s14 2 (0 : Int32).toNatClampNeg) fun y18 => bnd (F_X5_isFree s14 p0) fun r20 s21 => if r20 = 0 then (some ((-3 : Int32), s21)) else (bnd (F_X5_isBarredBy s21 y18 p3 p2 p0) fun r24 s25 => if r24 = 0 then (if y18 = (6 : Int32) then (some ((-5 : Int32), s25)) else (nam ((13 : Int32) + ((5 : Int32) * y18)) fun y29 => gd (inb y29 5460) <| nam (setI s25 2 y29.toNatClampNeg p1) fun s32 => gd (inb (y29 + (1 : Int32)) 5460) <| nam (setI s32 2 (y29 + (1 : Int32)).toNatClampNeg p2) fun s35 => gd (inb (y29 + (2 : Int32)) 5460) <| nam (setI s35 2 (y29 + (2 : Int32)).toNatClampNeg p3) fun s38 => gd (inb (y29 + (3 : Int32)) 5460) <| nam (setI s38 2 (y29 + (3 : Int32)).toNatClampNeg p0) fun s41 => gd (inb (y29 + (4 : Int32)) 5460) <| nam (setI s41 2 (y29 + (4 : Int32)).toNatClampNeg (-1 : Int32)) fun s44 => gd (inb (0 : Int32) 5460) <| gd (inb (0 : Int32) 5460) <| nam (setI s44 2 (0 : Int32).toNatClampNeg ((si s44 2 (0 : Int32).toNatClampNeg) + (1 : Int32))) fun s48 => some (y18, s48))) else (some ((-3 : Int32), s25)))))))
set_option maxHeartbeats 4000000 in
theorem c_X5_catcher1 {l : Launch} {E : EV} (hE : GE E) (hS : ∀ σ, eSk E σ → SkM σ) {s s' : St} {r : Int32} {p0 : Int32} {p1 : Int32} {p2 : Int32} {p3 : Int32} (h : F_X5_catcher1  s p0 p1 p2 p3 = some (r, s')) : CT l E yX5_catcher1 cX5_catcher1 7 (some .int) 6 144 [vr (some 0), vi p0, vi p1, vi p2, vi p3] s (some (vi r)) s' := by
  refine CT.start hE (by decide) rfl [(0, vr (some 0)), (1, vi p0), (2, vi p1), (3, vi p2), (4, vi p3)] rfl (fun X hX B => ?_)
  skip
  have B : FX X E cX5_catcher1 7 (some .int) "RoseThrowModel" "catcher1" (sn s) (ss s) 6 144 := B
  unfold F_X5_catcher1 at h
  refine r_iload_n (j := 1) B dX5_catcher1_0 rfl rfl ?_
  obtain ⟨r1, s2, hc3, h⟩ := bnd_e h
  refine r_callSv (As := [vi p0]) (rest := []) B rfl EX.same (c_X5_isCell B.ge hS hc3) (cw_X5_isCell rfl rfl) q1755 q1756 rfl dX5_catcher1_1 ?_
  refine r_if_eq (tgt := 46) B dX5_catcher1_4 (by decide) (fun cn4 => ?_) (fun cn4 => ?_)
  · have h := ot cn4 h
    refine r_iconst (v := -1) B dX5_catcher1_46 (by decide) ?_
    exact r_iret B dX5_catcher1_47 h
  · have h := of cn4 h
    refine r_iload_n (j := 2) B dX5_catcher1_7 rfl rfl ?_
    refine r_i2l B dX5_catcher1_8 ?_
    refine r_lconst (v := 0) B dX5_catcher1_9 (by decide) ?_
    refine r_ldc2 B dX5_catcher1_10 q1759 ?_
    obtain ⟨r5, s6, hc7, h⟩ := bnd_e h
    refine r_callSv (As := [vl ((p1).toInt64), vl (0 : Int64), vl (3 : Int64)]) (rest := []) B rfl EX.same (c_X5_in B.ge hS hc7) (cw_X5_in rfl rfl) q1740 q1741 rfl dX5_catcher1_13 ?_
    refine r_if_eq (tgt := 46) B dX5_catcher1_16 (by decide) (fun cn8 => ?_) (fun cn8 => ?_)
    · have h := ot cn8 h
      refine r_iconst (v := -1) B dX5_catcher1_46 (by decide) ?_
      exact r_iret B dX5_catcher1_47 h
    · have h := of cn8 h
      refine r_iload_n (j := 3) B dX5_catcher1_19 rfl rfl ?_
      refine r_i2l B dX5_catcher1_20 ?_
      refine r_ldc2 B dX5_catcher1_21 q1760 ?_
      refine r_ldc2 B dX5_catcher1_24 q1761 ?_
      obtain ⟨r9, s10, hc11, h⟩ := bnd_e h
      refine r_callSv (As := [vl ((p2).toInt64), vl (-9 : Int64), vl (9 : Int64)]) (rest := []) B rfl EX.same (c_X5_in B.ge hS hc11) (cw_X5_in rfl rfl) q1740 q1741 rfl dX5_catcher1_27 ?_
      refine r_if_eq (tgt := 46) B dX5_catcher1_30 (by decide) (fun cn12 => ?_) (fun cn12 => ?_)
      · have h := ot cn12 h
        refine r_iconst (v := -1) B dX5_catcher1_46 (by decide) ?_
        exact r_iret B dX5_catcher1_47 h
      · have h := of cn12 h
        refine r_iload (j := 4) B dX5_catcher1_33 rfl ?_
        refine r_i2l B dX5_catcher1_35 ?_
        refine r_lconst (v := 1) B dX5_catcher1_36 (by decide) ?_
        refine r_ldc2 B dX5_catcher1_37 q1761 ?_
        obtain ⟨r13, s14, hc15, h⟩ := bnd_e h
        refine r_callSv (As := [vl ((p3).toInt64), vl (1 : Int64), vl (9 : Int64)]) (rest := []) B rfl EX.same (c_X5_in B.ge hS hc15) (cw_X5_in rfl rfl) q1740 q1741 rfl dX5_catcher1_40 ?_
        refine r_if_ne (tgt := 48) B dX5_catcher1_43 (by decide) (fun cn16 => ?_) (fun cn16 => ?_)
        · have h := of cn16 h
          refine r_aload_n (j := 0) B dX5_catcher1_48 rfl rfl ?_
          refine g5 (k := 3) B (vr (some 2)) rfl (fun z => by rw [(hS _ z).1 0 (by decide)]; rfl) rfl q1520 rfl (fun z => by rw [(hS _ z).2 _ (List.mem_of_getElem? (i := 1) rfl)]; rfl) dX5_catcher1_49 ?_
          refine r_iconst (v := 0) B dX5_catcher1_52 (by decide) ?_
          obtain ⟨hg17, h⟩ := gd_e h
          refine r_iald B rfl (fun z => (hS _ z).1 2 (by decide)) hg17 dX5_catcher1_53 ?_
          obtain ⟨y18, e19, h⟩ := nam_e h
          refine r_topi e19 ?_
          refine r_istore (L' := [(0, vr (some 0)), (1, vi p0), (2, vi p1), (3, vi p2), (4, vi p3), (5, vi y18)]) B dX5_catcher1_54 (by decide) rfl rfl rfl ?_
          refine r_aload_n (j := 0) B dX5_catcher1_56 rfl rfl ?_
          refine r_iload_n (j := 1) B dX5_catcher1_57 rfl rfl ?_
          obtain ⟨r20, s21, hc22, h⟩ := bnd_e h
          refine r_callVv (As := [vi p0]) (rest := []) B rfl rfl EX.same (c_X5_isFree B.ge hS hc22) (cw_X5_isFree rfl rfl) (fun z => RV.of 5 ((fun z => by rw [(hS _ z).1 0 (by decide)]; rfl) z) rfl rfl qs51) q1762 q1764 rfl dX5_catcher1_58 ?_
          refine r_if_eq (tgt := 77) B dX5_catcher1_61 (by decide) (fun cn23 => ?_) (fun cn23 => ?_)
          · have h := ot cn23 h
            refine r_bipush (v := -3) B dX5_catcher1_77 (by decide) ?_
            exact r_iret B dX5_catcher1_79 h
          · have h := of cn23 h
            refine r_aload_n (j := 0) B dX5_catcher1_64 rfl rfl ?_
            refine r_iload (j := 5) B dX5_catcher1_65 rfl ?_
            refine r_iload (j := 4) B dX5_catcher1_67 rfl ?_
            refine r_iload_n (j := 3) B dX5_catcher1_69 rfl rfl ?_
            refine r_iload_n (j := 1) B dX5_catcher1_70 rfl rfl ?_
            obtain ⟨r24, s25, hc26, h⟩ := bnd_e h
            refine r_callVv (As := [vi y18, vi p3, vi p2, vi p0]) (rest := []) B rfl rfl EX.same (c_X5_isBarredBy B.ge hS hc26) (cw_X5_isBarredBy rfl rfl) (fun z => RV.of 5 ((fun z => by rw [(hS _ z).1 0 (by decide)]; rfl) z) rfl rfl qs53) q1770 q1772 rfl dX5_catcher1_71 ?_
            refine r_if_eq (tgt := 80) B dX5_catcher1_74 (by decide) (fun cn27 => ?_) (fun cn27 => ?_)
            · have h := ot cn27 h
              refine r_iload (j := 5) B dX5_catcher1_80 rfl ?_
              refine r_bipush (v := 6) B dX5_catcher1_82 (by decide) ?_
              refine r_ic_ne (tgt := 90) B dX5_catcher1_84 (by decide) (fun cn28 => ?_) (fun cn28 => ?_)
              · have h := of cn28 h
                refine r_bipush (v := 13) B dX5_catcher1_90 (by decide) ?_
                refine r_iconst (v := 5) B dX5_catcher1_92 (by decide) ?_
                refine r_iload (j := 5) B dX5_catcher1_93 rfl ?_
                refine r_imul B dX5_catcher1_95 ?_
                refine r_iadd B dX5_catcher1_96 ?_
                obtain ⟨y29, e30, h⟩ := nam_e h
                refine r_topi e30 ?_
                refine r_istore (L' := [(0, vr (some 0)), (1, vi p0), (2, vi p1), (3, vi p2), (4, vi p3), (5, vi y18), (6, vi y29)]) B dX5_catcher1_97 (by decide) rfl rfl rfl ?_
                refine r_aload_n (j := 0) B dX5_catcher1_99 rfl rfl ?_
                refine g5 (k := 3) B (vr (some 2)) rfl (fun z => by rw [(hS _ z).1 0 (by decide)]; rfl) rfl q1520 rfl (fun z => by rw [(hS _ z).2 _ (List.mem_of_getElem? (i := 1) rfl)]; rfl) dX5_catcher1_100 ?_
                refine r_iload (j := 6) B dX5_catcher1_103 rfl ?_
                refine r_iload_n (j := 2) B dX5_catcher1_105 rfl rfl ?_
                obtain ⟨hg31, h⟩ := gd_e h
                obtain ⟨s32, e33, h⟩ := nam_e h
                refine r_iast B e33 rfl (fun z => (hS _ z).1 2 (by decide)) hg31 dX5_catcher1_106 ?_
                refine r_aload_n (j := 0) B dX5_catcher1_107 rfl rfl ?_
                refine g5 (k := 3) B (vr (some 2)) rfl (fun z => by rw [(hS _ z).1 0 (by decide)]; rfl) rfl q1520 rfl (fun z => by rw [(hS _ z).2 _ (List.mem_of_getElem? (i := 1) rfl)]; rfl) dX5_catcher1_108 ?_
                refine r_iload (j := 6) B dX5_catcher1_111 rfl ?_
                refine r_iconst (v := 1) B dX5_catcher1_113 (by decide) ?_
                refine r_iadd B dX5_catcher1_114 ?_
                refine r_iload_n (j := 3) B dX5_catcher1_115 rfl rfl ?_
                obtain ⟨hg34, h⟩ := gd_e h
                obtain ⟨s35, e36, h⟩ := nam_e h
                refine r_iast B e36 rfl (fun z => (hS _ z).1 2 (by decide)) hg34 dX5_catcher1_116 ?_
                refine r_aload_n (j := 0) B dX5_catcher1_117 rfl rfl ?_
                refine g5 (k := 3) B (vr (some 2)) rfl (fun z => by rw [(hS _ z).1 0 (by decide)]; rfl) rfl q1520 rfl (fun z => by rw [(hS _ z).2 _ (List.mem_of_getElem? (i := 1) rfl)]; rfl) dX5_catcher1_118 ?_
                refine r_iload (j := 6) B dX5_catcher1_121 rfl ?_
                refine r_iconst (v := 2) B dX5_catcher1_123 (by decide) ?_
                refine r_iadd B dX5_catcher1_124 ?_
                refine r_iload (j := 4) B dX5_catcher1_125 rfl ?_
                obtain ⟨hg37, h⟩ := gd_e h
                obtain ⟨s38, e39, h⟩ := nam_e h
                refine r_iast B e39 rfl (fun z => (hS _ z).1 2 (by decide)) hg37 dX5_catcher1_127 ?_
                refine r_aload_n (j := 0) B dX5_catcher1_128 rfl rfl ?_
                refine g5 (k := 3) B (vr (some 2)) rfl (fun z => by rw [(hS _ z).1 0 (by decide)]; rfl) rfl q1520 rfl (fun z => by rw [(hS _ z).2 _ (List.mem_of_getElem? (i := 1) rfl)]; rfl) dX5_catcher1_129 ?_
                refine r_iload (j := 6) B dX5_catcher1_132 rfl ?_
                refine r_iconst (v := 3) B dX5_catcher1_134 (by decide) ?_
                refine r_iadd B dX5_catcher1_135 ?_
                refine r_iload_n (j := 1) B dX5_catcher1_136 rfl rfl ?_
                obtain ⟨hg40, h⟩ := gd_e h
                obtain ⟨s41, e42, h⟩ := nam_e h
                refine r_iast B e42 rfl (fun z => (hS _ z).1 2 (by decide)) hg40 dX5_catcher1_137 ?_
                refine r_aload_n (j := 0) B dX5_catcher1_138 rfl rfl ?_
                refine g5 (k := 3) B (vr (some 2)) rfl (fun z => by rw [(hS _ z).1 0 (by decide)]; rfl) rfl q1520 rfl (fun z => by rw [(hS _ z).2 _ (List.mem_of_getElem? (i := 1) rfl)]; rfl) dX5_catcher1_139 ?_
                refine r_iload (j := 6) B dX5_catcher1_142 rfl ?_
                refine r_iconst (v := 4) B dX5_catcher1_144 (by decide) ?_
                refine r_iadd B dX5_catcher1_145 ?_
                refine r_iconst (v := -1) B dX5_catcher1_146 (by decide) ?_
                obtain ⟨hg43, h⟩ := gd_e h
                obtain ⟨s44, e45, h⟩ := nam_e h
                refine r_iast B e45 rfl (fun z => (hS _ z).1 2 (by decide)) hg43 dX5_catcher1_147 ?_
                refine r_aload_n (j := 0) B dX5_catcher1_148 rfl rfl ?_
                refine g5 (k := 3) B (vr (some 2)) rfl (fun z => by rw [(hS _ z).1 0 (by decide)]; rfl) rfl q1520 rfl (fun z => by rw [(hS _ z).2 _ (List.mem_of_getElem? (i := 1) rfl)]; rfl) dX5_catcher1_149 ?_
                refine r_iconst (v := 0) B dX5_catcher1_152 (by decide) ?_
                refine r_dup2 B dX5_catcher1_153 rfl rfl ?_
                obtain ⟨hg46, h⟩ := gd_e h
                refine r_iald B rfl (fun z => (hS _ z).1 2 (by decide)) hg46 dX5_catcher1_154 ?_
                refine r_iconst (v := 1) B dX5_catcher1_155 (by decide) ?_
                refine r_iadd B dX5_catcher1_156 ?_
                obtain ⟨hg47, h⟩ := gd_e h
                obtain ⟨s48, e49, h⟩ := nam_e h
                refine r_iast B e49 rfl (fun z => (hS _ z).1 2 (by decide)) hg47 dX5_catcher1_157 ?_
                refine r_iload (j := 5) B dX5_catcher1_158 rfl ?_
                exact r_iret B dX5_catcher1_160 h
              · have h := ot cn28 h
                refine r_bipush (v := -5) B dX5_catcher1_87 (by decide) ?_
                exact r_iret B dX5_catcher1_89 h
            · have h := of cn27 h
              refine r_bipush (v := -3) B dX5_catcher1_77 (by decide) ?_
              exact r_iret B dX5_catcher1_79 h
        · have h := ot cn16 h
          refine r_iconst (v := -1) B dX5_catcher1_46 (by decide) ?_
          exact r_iret B dX5_catcher1_47 h
set_option maxHeartbeats 4000000 in
theorem cw_X5_catcher1 {X : CX} {fr lo : Nat} (h1 : Nat.ble (6 + 1) fr = true) (h2 : Nat.ble (26 + 144) lo = true) : CW X fr lo yX5_catcher1 cX5_catcher1 7 (some .int) 6 144 4 := ⟨q1754, q136, ⟨by decide +kernel, by decide +kernel, by decide +kernel⟩, Nat.le_of_ble_eq_true h1, Nat.le_of_ble_eq_true h2⟩

set_option maxHeartbeats 4000000 in
noncomputable def F_X5_settled_13 (s : St) (x1 : Int32) (z0 : Int32) : Option (Int32 × St) := nam (setI s 0 8 z0) fun s1 => bnd (F_X5_tell s1 x1) fun r3 s4 => some (r3, s4)
set_option maxHeartbeats 4000000 in
theorem w_X5_settled_13 {X : CX} {E : EV} {a0 s' : St} {r : Int32} (B : FX X E cX5_settled 2 (some .int) "RoseThrowModel" "settled" (sn a0) (ss a0) 1 21) (hS : ∀ σ, eSk E σ → SkM σ) (s : St) (x1 : Int32) (z0 : Int32) (h : F_X5_settled_13   s x1 z0 = some (r, s')) : J X E (sn a0) (ss a0) 2 (QR X E a0 (some (vi r)) s') s 13 [(0, vr (some 0)), (1, vi x1)] [vi z0, vr (some 0)] := by
  unfold F_X5_settled_13 at h
  obtain ⟨s1, e2, h⟩ := nam_e h
  refine pI5 (k := 8) B e2 rfl (fun z => by rw [(hS _ z).1 0 (by decide)]; rfl) rfl q1525 rfl rfl (fun _ _ _ => rfl) rfl dX5_settled_13 ?_
  refine r_aload_n (j := 0) B dX5_settled_16 rfl rfl ?_
  refine r_iload_n (j := 1) B dX5_settled_17 rfl rfl ?_
  obtain ⟨r3, s4, hc5, h⟩ := bnd_e h
  refine r_callVv (As := [vi x1]) (rest := []) B rfl rfl EX.same (c_X5_tell B.ge hS hc5) (cw_X5_tell rfl rfl) (fun z => RV.of 5 ((fun z => by rw [(hS _ z).1 0 (by decide)]; rfl) z) rfl rfl qs47) q1724 q1726 rfl dX5_settled_18 ?_
  exact r_iret B dX5_settled_21 h
set_option maxHeartbeats 4000000 in
noncomputable def F_X5_settled (s : St) (p0 : Int32) : Option (Int32 × St) := if 0 ≤ p0 then (F_X5_settled_13 s p0 (0 : Int32)) else (F_X5_settled_13 s p0 (si s 0 8))
set_option maxHeartbeats 4000000 in
theorem c_X5_settled {l : Launch} {E : EV} (hE : GE E) (hS : ∀ σ, eSk E σ → SkM σ) {s s' : St} {r : Int32} {p0 : Int32} (h : F_X5_settled  s p0 = some (r, s')) : CT l E yX5_settled cX5_settled 2 (some .int) 1 21 [vr (some 0), vi p0] s (some (vi r)) s' := by
  refine CT.start hE (by decide) rfl [(0, vr (some 0)), (1, vi p0)] rfl (fun X hX B => ?_)
  skip
  have B : FX X E cX5_settled 2 (some .int) "RoseThrowModel" "settled" (sn s) (ss s) 1 21 := B
  unfold F_X5_settled at h
  refine r_aload_n (j := 0) B dX5_settled_0 rfl rfl ?_
  refine r_iload_n (j := 1) B dX5_settled_1 rfl rfl ?_
  refine r_if_ge (tgt := 12) B dX5_settled_2 (by decide) (fun cn1 => ?_) (fun cn1 => ?_)
  · have h := ot cn1 h
    refine r_iconst (v := 0) B dX5_settled_12 (by decide) ?_
    exact w_X5_settled_13 B hS s p0 (0 : Int32) h
  · have h := of cn1 h
    refine r_aload_n (j := 0) B dX5_settled_5 rfl rfl ?_
    refine g5 (k := 8) B (vi (si s 0 8)) rfl (fun z => by rw [(hS _ z).1 0 (by decide)]; rfl) rfl q1525 rfl (fun _ => rfl) dX5_settled_6 ?_
    refine r_goto (tgt := 13) B dX5_settled_9 (by decide) ?_
    exact w_X5_settled_13 B hS s p0 (si s 0 8) h
set_option maxHeartbeats 4000000 in
theorem cw_X5_settled {X : CX} {fr lo : Nat} (h1 : Nat.ble (1 + 1) fr = true) (h2 : Nat.ble (21 + 21) lo = true) : CW X fr lo yX5_settled cX5_settled 2 (some .int) 1 21 1 := ⟨q1812, q136, ⟨by decide +kernel, by decide +kernel, by decide +kernel⟩, Nat.le_of_ble_eq_true h1, Nat.le_of_ble_eq_true h2⟩

set_option maxHeartbeats 4000000 in
noncomputable def F_X5_catcher (s : St) (p0 : Int32) (p1 : Int32) (p2 : Int32) (p3 : Int32) : Option (Int32 × St) := nam (setI s 0 0 (0 : Int32)) fun s1 => bnd (F_X5_catcher1 s1 p0 p1 p2 p3) fun r3 s4 => bnd (F_X5_settled s4 r3) fun r6 s7 => some (r6, s7)
set_option maxHeartbeats 4000000 in
theorem c_X5_catcher {l : Launch} {E : EV} (hE : GE E) (hS : ∀ σ, eSk E σ → SkM σ) {s s' : St} {r : Int32} {p0 : Int32} {p1 : Int32} {p2 : Int32} {p3 : Int32} (h : F_X5_catcher  s p0 p1 p2 p3 = some (r, s')) : CT l E yX5_catcher cX5_catcher 5 (some .int) 7 170 [vr (some 0), vi p0, vi p1, vi p2, vi p3] s (some (vi r)) s' := by
  refine CT.start hE (by decide) rfl [(0, vr (some 0)), (1, vi p0), (2, vi p1), (3, vi p2), (4, vi p3)] rfl (fun X hX B => ?_)
  skip
  have B : FX X E cX5_catcher 5 (some .int) "RoseThrowModel" "catcher" (sn s) (ss s) 7 170 := B
  unfold F_X5_catcher at h
  refine r_aload_n (j := 0) B dX5_catcher_0 rfl rfl ?_
  refine r_iconst (v := 0) B dX5_catcher_1 (by decide) ?_
  obtain ⟨s1, e2, h⟩ := nam_e h
  refine pI5 (k := 0) B e2 rfl (fun z => by rw [(hS _ z).1 0 (by decide)]; rfl) rfl q1517 rfl rfl (fun _ _ _ => rfl) rfl dX5_catcher_2 ?_
  refine r_aload_n (j := 0) B dX5_catcher_5 rfl rfl ?_
  refine r_aload_n (j := 0) B dX5_catcher_6 rfl rfl ?_
  refine r_iload_n (j := 1) B dX5_catcher_7 rfl rfl ?_
  refine r_iload_n (j := 2) B dX5_catcher_8 rfl rfl ?_
  refine r_iload_n (j := 3) B dX5_catcher_9 rfl rfl ?_
  refine r_iload (j := 4) B dX5_catcher_10 rfl ?_
  obtain ⟨r3, s4, hc5, h⟩ := bnd_e h
  refine r_callVv (As := [vi p0, vi p1, vi p2, vi p3]) (rest := [vr (some 0)]) B rfl rfl EX.same (c_X5_catcher1 B.ge hS hc5) (cw_X5_catcher1 rfl rfl) (fun z => RV.of 5 ((fun z => by rw [(hS _ z).1 0 (by decide)]; rfl) z) rfl rfl qs50) q1751 q1753 rfl dX5_catcher_12 ?_
  obtain ⟨r6, s7, hc8, h⟩ := bnd_e h
  refine r_callVv (As := [vi r3]) (rest := []) B rfl rfl EX.same (c_X5_settled B.ge hS hc8) (cw_X5_settled rfl rfl) (fun z => RV.of 5 ((fun z => by rw [(hS _ z).1 0 (by decide)]; rfl) z) rfl rfl qs62) q1809 q1811 rfl dX5_catcher_15 ?_
  exact r_iret B dX5_catcher_18 h
set_option maxHeartbeats 4000000 in
theorem cw_X5_catcher {X : CX} {fr lo : Nat} (h1 : Nat.ble (7 + 1) fr = true) (h2 : Nat.ble (24 + 170) lo = true) : CW X fr lo yX5_catcher cX5_catcher 5 (some .int) 7 170 4 := ⟨q1750, q136, ⟨by decide +kernel, by decide +kernel, by decide +kernel⟩, Nat.le_of_ble_eq_true h1, Nat.le_of_ble_eq_true h2⟩

set_option maxHeartbeats 4000000 in
noncomputable def F_X5_set1 (s : St) (p0 : Int32) (p1 : Int32) : Option (Int32 × St) := gd (inb p0 5460) <| nam (setI s 2 p0.toNatClampNeg p1) fun s2 => bnd (F_X5_tell s2 (0 : Int32)) fun r4 s5 => some (r4, s5)
set_option maxHeartbeats 4000000 in
theorem c_X5_set1 {l : Launch} {E : EV} (hE : GE E) (hS : ∀ σ, eSk E σ → SkM σ) {s s' : St} {r : Int32} {p0 : Int32} {p1 : Int32} (h : F_X5_set1  s p0 p1 = some (r, s')) : CT l E yX5_set1 cX5_set1 3 (some .int) 1 21 [vr (some 0), vi p0, vi p1] s (some (vi r)) s' := by
  refine CT.start hE (by decide) rfl [(0, vr (some 0)), (1, vi p0), (2, vi p1)] rfl (fun X hX B => ?_)
  skip
  have B : FX X E cX5_set1 3 (some .int) "RoseThrowModel" "set1" (sn s) (ss s) 1 21 := B
  unfold F_X5_set1 at h
  refine r_aload_n (j := 0) B dX5_set1_0 rfl rfl ?_
  refine g5 (k := 3) B (vr (some 2)) rfl (fun z => by rw [(hS _ z).1 0 (by decide)]; rfl) rfl q1520 rfl (fun z => by rw [(hS _ z).2 _ (List.mem_of_getElem? (i := 1) rfl)]; rfl) dX5_set1_1 ?_
  refine r_iload_n (j := 1) B dX5_set1_4 rfl rfl ?_
  refine r_iload_n (j := 2) B dX5_set1_5 rfl rfl ?_
  obtain ⟨hg1, h⟩ := gd_e h
  obtain ⟨s2, e3, h⟩ := nam_e h
  refine r_iast B e3 rfl (fun z => (hS _ z).1 2 (by decide)) hg1 dX5_set1_6 ?_
  refine r_aload_n (j := 0) B dX5_set1_7 rfl rfl ?_
  refine r_iconst (v := 0) B dX5_set1_8 (by decide) ?_
  obtain ⟨r4, s5, hc6, h⟩ := bnd_e h
  refine r_callVv (As := [vi (0 : Int32)]) (rest := []) B rfl rfl EX.same (c_X5_tell B.ge hS hc6) (cw_X5_tell rfl rfl) (fun z => RV.of 5 ((fun z => by rw [(hS _ z).1 0 (by decide)]; rfl) z) rfl rfl qs47) q1724 q1726 rfl dX5_set1_9 ?_
  exact r_iret B dX5_set1_12 h
set_option maxHeartbeats 4000000 in
theorem cw_X5_set1 {X : CX} {fr lo : Nat} (h1 : Nat.ble (1 + 1) fr = true) (h2 : Nat.ble (22 + 21) lo = true) : CW X fr lo yX5_set1 cX5_set1 3 (some .int) 1 21 2 := ⟨q1820, q136, ⟨by decide +kernel, by decide +kernel, by decide +kernel⟩, Nat.le_of_ble_eq_true h1, Nat.le_of_ble_eq_true h2⟩

set_option maxHeartbeats 4000000 in
noncomputable def F_X5_put_62 (s : St) (x1 : Int32) (x2 : Int32) (x3 : Int32) (z0 : Int32) : Option (Int32 × St) := if z0 = 0 then (bnd (F_X5_tell s (-1 : Int32)) fun r12 s13 => some (r12, s13)) else (bnd (F_X5_isCatcher s x1) fun r2 s3 => if r2 = 0 then (bnd (F_X5_tell s3 (-2 : Int32)) fun r6 s7 => some (r6, s7)) else (bnd (F_X5_set1 s3 (((13 : Int32) + ((5 : Int32) * x1)) + x2) x3) fun r9 s10 => some (r9, s10)))
set_option maxHeartbeats 4000000 in
theorem w_X5_put_62 {X : CX} {E : EV} {a0 s' : St} {r : Int32} (B : FX X E cX5_put 5 (some .int) "RoseThrowModel" "put" (sn a0) (ss a0) 2 46) (hS : ∀ σ, eSk E σ → SkM σ) (s : St) (x1 : Int32) (x2 : Int32) (x3 : Int32) (z0 : Int32) (h : F_X5_put_62   s x1 x2 x3 z0 = some (r, s')) : J X E (sn a0) (ss a0) 5 (QR X E a0 (some (vi r)) s') s 62 [(0, vr (some 0)), (1, vi x1), (2, vi x2), (3, vi x3)] [vi z0] := by
  unfold F_X5_put_62 at h
  refine r_istore (L' := [(0, vr (some 0)), (1, vi x1), (2, vi x2), (3, vi x3), (4, vi z0)]) B dX5_put_62 (by decide) rfl rfl rfl ?_
  refine r_iload (j := 4) B dX5_put_64 rfl ?_
  refine r_if_ne (tgt := 75) B dX5_put_66 (by decide) (fun cn1 => ?_) (fun cn1 => ?_)
  · have h := of cn1 h
    refine r_aload_n (j := 0) B dX5_put_75 rfl rfl ?_
    refine r_iload_n (j := 1) B dX5_put_76 rfl rfl ?_
    obtain ⟨r2, s3, hc4, h⟩ := bnd_e h
    refine r_callVv (As := [vi x1]) (rest := []) B rfl rfl EX.same (c_X5_isCatcher B.ge hS hc4) (cw_X5_isCatcher rfl rfl) (fun z => RV.of 5 ((fun z => by rw [(hS _ z).1 0 (by decide)]; rfl) z) rfl rfl qs60) q1799 q1801 rfl dX5_put_77 ?_
    refine r_if_eq (tgt := 99) B dX5_put_80 (by decide) (fun cn5 => ?_) (fun cn5 => ?_)
    · have h := ot cn5 h
      refine r_aload_n (j := 0) B dX5_put_99 rfl rfl ?_
      refine r_bipush (v := -2) B dX5_put_100 (by decide) ?_
      obtain ⟨r6, s7, hc8, h⟩ := bnd_e h
      refine r_callVv (As := [vi (-2 : Int32)]) (rest := []) B rfl rfl EX.same (c_X5_tell B.ge hS hc8) (cw_X5_tell rfl rfl) (fun z => RV.of 5 ((fun z => by rw [(hS _ z).1 0 (by decide)]; rfl) z) rfl rfl qs47) q1724 q1726 rfl dX5_put_102 ?_
      exact r_iret B dX5_put_105 h
    · have h := of cn5 h
      refine r_aload_n (j := 0) B dX5_put_83 rfl rfl ?_
      refine r_bipush (v := 13) B dX5_put_84 (by decide) ?_
      refine r_iconst (v := 5) B dX5_put_86 (by decide) ?_
      refine r_iload_n (j := 1) B dX5_put_87 rfl rfl ?_
      refine r_imul B dX5_put_88 ?_
      refine r_iadd B dX5_put_89 ?_
      refine r_iload_n (j := 2) B dX5_put_90 rfl rfl ?_
      refine r_iadd B dX5_put_91 ?_
      refine r_iload_n (j := 3) B dX5_put_92 rfl rfl ?_
      obtain ⟨r9, s10, hc11, h⟩ := bnd_e h
      refine r_callVv (As := [vi (((13 : Int32) + ((5 : Int32) * x1)) + x2), vi x3]) (rest := []) B rfl rfl EX.same (c_X5_set1 B.ge hS hc11) (cw_X5_set1 rfl rfl) (fun z => RV.of 5 ((fun z => by rw [(hS _ z).1 0 (by decide)]; rfl) z) rfl rfl qs63) q1817 q1819 rfl dX5_put_93 ?_
      refine r_goto (tgt := 105) B dX5_put_96 (by decide) ?_
      exact r_iret B dX5_put_105 h
  · have h := ot cn1 h
    refine r_aload_n (j := 0) B dX5_put_69 rfl rfl ?_
    refine r_iconst (v := -1) B dX5_put_70 (by decide) ?_
    obtain ⟨r12, s13, hc14, h⟩ := bnd_e h
    refine r_callVv (As := [vi (-1 : Int32)]) (rest := []) B rfl rfl EX.same (c_X5_tell B.ge hS hc14) (cw_X5_tell rfl rfl) (fun z => RV.of 5 ((fun z => by rw [(hS _ z).1 0 (by decide)]; rfl) z) rfl rfl qs47) q1724 q1726 rfl dX5_put_71 ?_
    exact r_iret B dX5_put_74 h
set_option maxHeartbeats 4000000 in
noncomputable def F_X5_put_61 (s : St) (x1 : Int32) (x2 : Int32) (x3 : Int32) : Option (Int32 × St) := F_X5_put_62 s x1 x2 x3 (0 : Int32)
set_option maxHeartbeats 4000000 in
theorem w_X5_put_61 {X : CX} {E : EV} {a0 s' : St} {r : Int32} (B : FX X E cX5_put 5 (some .int) "RoseThrowModel" "put" (sn a0) (ss a0) 2 46) (hS : ∀ σ, eSk E σ → SkM σ) (s : St) (x1 : Int32) (x2 : Int32) (x3 : Int32) (h : F_X5_put_61   s x1 x2 x3 = some (r, s')) : J X E (sn a0) (ss a0) 5 (QR X E a0 (some (vi r)) s') s 61 [(0, vr (some 0)), (1, vi x1), (2, vi x2), (3, vi x3)] [] := by
  unfold F_X5_put_61 at h
  refine r_iconst (v := 0) B dX5_put_61 (by decide) ?_
  exact w_X5_put_62 B hS s x1 x2 x3 (0 : Int32) h
set_option maxHeartbeats 4000000 in
noncomputable def F_X5_put (s : St) (p0 : Int32) (p1 : Int32) (p2 : Int32) : Option (Int32 × St) := nam (setI s 0 0 (0 : Int32)) fun s1 => if p1 = 0 then (bnd (F_X5_in s1 ((p2).toInt64) (0 : Int64) (3 : Int64)) fun r13 s14 => F_X5_put_62 s14 p0 p1 p2 r13) else (if p1 = (1 : Int32) then (bnd (F_X5_in s1 ((p2).toInt64) (-9 : Int64) (9 : Int64)) fun r10 s11 => F_X5_put_62 s11 p0 p1 p2 r10) else (if p1 = (2 : Int32) then (bnd (F_X5_in s1 ((p2).toInt64) (1 : Int64) (9 : Int64)) fun r6 s7 => if r6 = 0 then (F_X5_put_61 s7 p0 p1 p2) else (F_X5_put_62 s7 p0 p1 p2 (1 : Int32))) else (F_X5_put_61 s1 p0 p1 p2)))
set_option maxHeartbeats 4000000 in
theorem c_X5_put {l : Launch} {E : EV} (hE : GE E) (hS : ∀ σ, eSk E σ → SkM σ) {s s' : St} {r : Int32} {p0 : Int32} {p1 : Int32} {p2 : Int32} (h : F_X5_put  s p0 p1 p2 = some (r, s')) : CT l E yX5_put cX5_put 5 (some .int) 2 46 [vr (some 0), vi p0, vi p1, vi p2] s (some (vi r)) s' := by
  refine CT.start hE (by decide) rfl [(0, vr (some 0)), (1, vi p0), (2, vi p1), (3, vi p2)] rfl (fun X hX B => ?_)
  skip
  have B : FX X E cX5_put 5 (some .int) "RoseThrowModel" "put" (sn s) (ss s) 2 46 := B
  unfold F_X5_put at h
  refine r_aload_n (j := 0) B dX5_put_0 rfl rfl ?_
  refine r_iconst (v := 0) B dX5_put_1 (by decide) ?_
  obtain ⟨s1, e2, h⟩ := nam_e h
  refine pI5 (k := 0) B e2 rfl (fun z => by rw [(hS _ z).1 0 (by decide)]; rfl) rfl q1517 rfl rfl (fun _ _ _ => rfl) rfl dX5_put_2 ?_
  refine r_iload_n (j := 2) B dX5_put_5 rfl rfl ?_
  refine r_if_ne (tgt := 21) B dX5_put_6 (by decide) (fun cn3 => ?_) (fun cn3 => ?_)
  · have h := of cn3 h
    refine r_iload_n (j := 2) B dX5_put_21 rfl rfl ?_
    refine r_iconst (v := 1) B dX5_put_22 (by decide) ?_
    refine r_ic_ne (tgt := 40) B dX5_put_23 (by decide) (fun cn4 => ?_) (fun cn4 => ?_)
    · have h := of cn4 h
      refine r_iload_n (j := 2) B dX5_put_40 rfl rfl ?_
      refine r_iconst (v := 2) B dX5_put_41 (by decide) ?_
      refine r_ic_ne (tgt := 61) B dX5_put_42 (by decide) (fun cn5 => ?_) (fun cn5 => ?_)
      · have h := of cn5 h
        exact w_X5_put_61 B hS s1 p0 p1 p2 h
      · have h := ot cn5 h
        refine r_iload_n (j := 3) B dX5_put_45 rfl rfl ?_
        refine r_i2l B dX5_put_46 ?_
        refine r_lconst (v := 1) B dX5_put_47 (by decide) ?_
        refine r_ldc2 B dX5_put_48 q1761 ?_
        obtain ⟨r6, s7, hc8, h⟩ := bnd_e h
        refine r_callSv (As := [vl ((p2).toInt64), vl (1 : Int64), vl (9 : Int64)]) (rest := []) B rfl EX.same (c_X5_in B.ge hS hc8) (cw_X5_in rfl rfl) q1740 q1741 rfl dX5_put_51 ?_
        refine r_if_eq (tgt := 61) B dX5_put_54 (by decide) (fun cn9 => ?_) (fun cn9 => ?_)
        · have h := ot cn9 h
          exact w_X5_put_61 B hS s7 p0 p1 p2 h
        · have h := of cn9 h
          refine r_iconst (v := 1) B dX5_put_57 (by decide) ?_
          refine r_goto (tgt := 62) B dX5_put_58 (by decide) ?_
          exact w_X5_put_62 B hS s7 p0 p1 p2 (1 : Int32) h
    · have h := ot cn4 h
      refine r_iload_n (j := 3) B dX5_put_26 rfl rfl ?_
      refine r_i2l B dX5_put_27 ?_
      refine r_ldc2 B dX5_put_28 q1760 ?_
      refine r_ldc2 B dX5_put_31 q1761 ?_
      obtain ⟨r10, s11, hc12, h⟩ := bnd_e h
      refine r_callSv (As := [vl ((p2).toInt64), vl (-9 : Int64), vl (9 : Int64)]) (rest := []) B rfl EX.same (c_X5_in B.ge hS hc12) (cw_X5_in rfl rfl) q1740 q1741 rfl dX5_put_34 ?_
      refine r_goto (tgt := 62) B dX5_put_37 (by decide) ?_
      exact w_X5_put_62 B hS s11 p0 p1 p2 r10 h
  · have h := ot cn3 h
    refine r_iload_n (j := 3) B dX5_put_9 rfl rfl ?_
    refine r_i2l B dX5_put_10 ?_
    refine r_lconst (v := 0) B dX5_put_11 (by decide) ?_
    refine r_ldc2 B dX5_put_12 q1759 ?_
    obtain ⟨r13, s14, hc15, h⟩ := bnd_e h
    refine r_callSv (As := [vl ((p2).toInt64), vl (0 : Int64), vl (3 : Int64)]) (rest := []) B rfl EX.same (c_X5_in B.ge hS hc15) (cw_X5_in rfl rfl) q1740 q1741 rfl dX5_put_15 ?_
    refine r_goto (tgt := 62) B dX5_put_18 (by decide) ?_
    exact w_X5_put_62 B hS s14 p0 p1 p2 r13 h
set_option maxHeartbeats 4000000 in
theorem cw_X5_put {X : CX} {fr lo : Nat} (h1 : Nat.ble (2 + 1) fr = true) (h2 : Nat.ble (24 + 46) lo = true) : CW X fr lo yX5_put cX5_put 5 (some .int) 2 46 3 := ⟨q1816, q136, ⟨by decide +kernel, by decide +kernel, by decide +kernel⟩, Nat.le_of_ble_eq_true h1, Nat.le_of_ble_eq_true h2⟩

set_option maxHeartbeats 4000000 in
noncomputable def F_X5_of (s : St) (p0 : Int32) (p1 : Int32) : Option (Int32 × St) := nam (setI s 0 0 (0 : Int32)) fun s1 => bnd (F_X5_isCatcher s1 p0) fun r3 s4 => if r3 = 0 then (some ((-1000 : Int32), s4)) else (bnd (F_X5_in s4 ((p1).toInt64) (0 : Int64) (4 : Int64)) fun r7 s8 => if r7 = 0 then (some ((-1000 : Int32), s8)) else (bnd (F_X5_ofCatcher s8 p0 p1) fun r11 s12 => some (r11, s12)))
set_option maxHeartbeats 4000000 in
theorem c_X5_of {l : Launch} {E : EV} (hE : GE E) (hS : ∀ σ, eSk E σ → SkM σ) {s s' : St} {r : Int32} {p0 : Int32} {p1 : Int32} (h : F_X5_of  s p0 p1 = some (r, s')) : CT l E yX5_of cX5_of 3 (some .int) 2 46 [vr (some 0), vi p0, vi p1] s (some (vi r)) s' := by
  refine CT.start hE (by decide) rfl [(0, vr (some 0)), (1, vi p0), (2, vi p1)] rfl (fun X hX B => ?_)
  skip
  have B : FX X E cX5_of 3 (some .int) "RoseThrowModel" "of" (sn s) (ss s) 2 46 := B
  unfold F_X5_of at h
  refine r_aload_n (j := 0) B dX5_of_0 rfl rfl ?_
  refine r_iconst (v := 0) B dX5_of_1 (by decide) ?_
  obtain ⟨s1, e2, h⟩ := nam_e h
  refine pI5 (k := 0) B e2 rfl (fun z => by rw [(hS _ z).1 0 (by decide)]; rfl) rfl q1517 rfl rfl (fun _ _ _ => rfl) rfl dX5_of_2 ?_
  refine r_aload_n (j := 0) B dX5_of_5 rfl rfl ?_
  refine r_iload_n (j := 1) B dX5_of_6 rfl rfl ?_
  obtain ⟨r3, s4, hc5, h⟩ := bnd_e h
  refine r_callVv (As := [vi p0]) (rest := []) B rfl rfl EX.same (c_X5_isCatcher B.ge hS hc5) (cw_X5_isCatcher rfl rfl) (fun z => RV.of 5 ((fun z => by rw [(hS _ z).1 0 (by decide)]; rfl) z) rfl rfl qs60) q1799 q1801 rfl dX5_of_7 ?_
  refine r_if_eq (tgt := 34) B dX5_of_10 (by decide) (fun cn6 => ?_) (fun cn6 => ?_)
  · have h := ot cn6 h
    refine r_sipush (v := -1000) B dX5_of_34 (by decide) ?_
    exact r_iret B dX5_of_37 h
  · have h := of cn6 h
    refine r_iload_n (j := 2) B dX5_of_13 rfl rfl ?_
    refine r_i2l B dX5_of_14 ?_
    refine r_lconst (v := 0) B dX5_of_15 (by decide) ?_
    refine r_ldc2 B dX5_of_16 q1825 ?_
    obtain ⟨r7, s8, hc9, h⟩ := bnd_e h
    refine r_callSv (As := [vl ((p1).toInt64), vl (0 : Int64), vl (4 : Int64)]) (rest := []) B rfl EX.same (c_X5_in B.ge hS hc9) (cw_X5_in rfl rfl) q1740 q1741 rfl dX5_of_19 ?_
    refine r_if_eq (tgt := 34) B dX5_of_22 (by decide) (fun cn10 => ?_) (fun cn10 => ?_)
    · have h := ot cn10 h
      refine r_sipush (v := -1000) B dX5_of_34 (by decide) ?_
      exact r_iret B dX5_of_37 h
    · have h := of cn10 h
      refine r_aload_n (j := 0) B dX5_of_25 rfl rfl ?_
      refine r_iload_n (j := 1) B dX5_of_26 rfl rfl ?_
      refine r_iload_n (j := 2) B dX5_of_27 rfl rfl ?_
      obtain ⟨r11, s12, hc13, h⟩ := bnd_e h
      refine r_callVv (As := [vi p0, vi p1]) (rest := []) B rfl rfl EX.same (c_X5_ofCatcher B.ge hS hc13) (cw_X5_ofCatcher rfl rfl) (fun z => RV.of 5 ((fun z => by rw [(hS _ z).1 0 (by decide)]; rfl) z) rfl rfl qs52) q1766 q1768 rfl dX5_of_28 ?_
      refine r_goto (tgt := 37) B dX5_of_31 (by decide) ?_
      exact r_iret B dX5_of_37 h
set_option maxHeartbeats 4000000 in
theorem cw_X5_of {X : CX} {fr lo : Nat} (h1 : Nat.ble (2 + 1) fr = true) (h2 : Nat.ble (22 + 46) lo = true) : CW X fr lo yX5_of cX5_of 3 (some .int) 2 46 2 := ⟨q1824, q136, ⟨by decide +kernel, by decide +kernel, by decide +kernel⟩, Nat.le_of_ble_eq_true h1, Nat.le_of_ble_eq_true h2⟩

set_option maxHeartbeats 4000000 in
noncomputable def F_X5_isTerm (s : St) (p0 : Int32) (p1 : Int32) : Option (Int32 × St) := (if p0 = (0 : Int32) then (bnd (F_X5_in s ((p1).toInt64) (1 : Int64) (5 : Int64)) fun r1 s2 => gd (fits .boolean (.int r1)) <| some (r1, s2)) else (if p0 = (1 : Int32) then (bnd (F_X5_in s ((p1).toInt64) (-2 : Int64) (2 : Int64)) fun r5 s6 => gd (fits .boolean (.int r5)) <| some (r5, s6)) else (if p0 = (2 : Int32) then (bnd (F_X5_in s ((p1).toInt64) (1 : Int64) (9 : Int64)) fun r9 s10 => gd (fits .boolean (.int r9)) <| some (r9, s10)) else (if p0 = (3 : Int32) then (bnd (F_X5_in s ((p1).toInt64) (2 : Int64) (3 : Int64)) fun r13 s14 => gd (fits .boolean (.int r13)) <| some (r13, s14)) else (if p0 = (4 : Int32) then (bnd (F_X5_in s ((p1).toInt64) (0 : Int64) (5 : Int64)) fun r17 s18 => gd (fits .boolean (.int r17)) <| some (r17, s18)) else (if p0 = (5 : Int32) then (bnd (F_X5_in s ((p1).toInt64) (0 : Int64) (2 : Int64)) fun r21 s22 => gd (fits .boolean (.int r21)) <| some (r21, s22)) else (if p0 = (6 : Int32) then (bnd (F_X5_in s ((p1).toInt64) (-1 : Int64) (35 : Int64)) fun r25 s26 => gd (fits .boolean (.int r25)) <| some (r25, s26)) else (if p0 = (7 : Int32) then (bnd (F_X5_in s ((p1).toInt64) (1 : Int64) (9 : Int64)) fun r29 s30 => gd (fits .boolean (.int r29)) <| some (r29, s30)) else (if p0 = (8 : Int32) then (bnd (F_X5_in s ((p1).toInt64) (0 : Int64) (9 : Int64)) fun r33 s34 => gd (fits .boolean (.int r33)) <| some (r33, s34)) else (some ((0 : Int32), s)))))))))))
set_option maxHeartbeats 4000000 in
theorem c_X5_isTerm {l : Launch} {E : EV} (hE : GE E) (hS : ∀ σ, eSk E σ → SkM σ) {s s' : St} {r : Int32} {p0 : Int32} {p1 : Int32} (h : F_X5_isTerm  s p0 p1 = some (r, s')) : CT l E yX5_isTerm cX5_isTerm 2 (some .boolean) 1 25 [vi p0, vi p1] s (some (vi r)) s' := by
  refine CT.start hE (by decide) rfl [(0, vi p0), (1, vi p1)] rfl (fun X hX B => ?_)
  skip
  have B : FX X E cX5_isTerm 2 (some .boolean) "RoseThrowModel" "isTerm" (sn s) (ss s) 1 25 := B
  unfold F_X5_isTerm at h
  refine r_iload_n (j := 0) B dX5_isTerm_0 rfl rfl ?_
  by_cases c1_0 : p0 = (0 : Int32)
  · have h := ot c1_0 h
    refine r_tin (tgt := 52) B dX5_isTerm_1 c1_0 (by decide) (by decide) (off := 51) (by decide) (by decide) ?_
    refine r_iload_n (j := 1) B dX5_isTerm_52 rfl rfl ?_
    refine r_i2l B dX5_isTerm_53 ?_
    refine r_lconst (v := 1) B dX5_isTerm_54 (by decide) ?_
    refine r_ldc2 B dX5_isTerm_55 q1833 ?_
    obtain ⟨r1, s2, hc3, h⟩ := bnd_e h
    refine r_callSv (As := [vl ((p1).toInt64), vl (1 : Int64), vl (5 : Int64)]) (rest := []) B rfl EX.same (c_X5_in B.ge hS hc3) (cw_X5_in rfl rfl) q1740 q1741 rfl dX5_isTerm_58 ?_
    obtain ⟨hg4, h⟩ := gd_e h
    exact r_zret B dX5_isTerm_61 hg4 h
  · have h := of c1_0 h
    by_cases c1_1 : p0 = (1 : Int32)
    · have h := ot c1_1 h
      refine r_tin (tgt := 62) B dX5_isTerm_1 c1_1 (by decide) (by decide) (off := 61) (by decide) (by decide) ?_
      refine r_iload_n (j := 1) B dX5_isTerm_62 rfl rfl ?_
      refine r_i2l B dX5_isTerm_63 ?_
      refine r_ldc2 B dX5_isTerm_64 q1834 ?_
      refine r_ldc2 B dX5_isTerm_67 q1835 ?_
      obtain ⟨r5, s6, hc7, h⟩ := bnd_e h
      refine r_callSv (As := [vl ((p1).toInt64), vl (-2 : Int64), vl (2 : Int64)]) (rest := []) B rfl EX.same (c_X5_in B.ge hS hc7) (cw_X5_in rfl rfl) q1740 q1741 rfl dX5_isTerm_70 ?_
      obtain ⟨hg8, h⟩ := gd_e h
      exact r_zret B dX5_isTerm_73 hg8 h
    · have h := of c1_1 h
      by_cases c1_2 : p0 = (2 : Int32)
      · have h := ot c1_2 h
        refine r_tin (tgt := 74) B dX5_isTerm_1 c1_2 (by decide) (by decide) (off := 73) (by decide) (by decide) ?_
        refine r_iload_n (j := 1) B dX5_isTerm_74 rfl rfl ?_
        refine r_i2l B dX5_isTerm_75 ?_
        refine r_lconst (v := 1) B dX5_isTerm_76 (by decide) ?_
        refine r_ldc2 B dX5_isTerm_77 q1761 ?_
        obtain ⟨r9, s10, hc11, h⟩ := bnd_e h
        refine r_callSv (As := [vl ((p1).toInt64), vl (1 : Int64), vl (9 : Int64)]) (rest := []) B rfl EX.same (c_X5_in B.ge hS hc11) (cw_X5_in rfl rfl) q1740 q1741 rfl dX5_isTerm_80 ?_
        obtain ⟨hg12, h⟩ := gd_e h
        exact r_zret B dX5_isTerm_83 hg12 h
      · have h := of c1_2 h
        by_cases c1_3 : p0 = (3 : Int32)
        · have h := ot c1_3 h
          refine r_tin (tgt := 84) B dX5_isTerm_1 c1_3 (by decide) (by decide) (off := 83) (by decide) (by decide) ?_
          refine r_iload_n (j := 1) B dX5_isTerm_84 rfl rfl ?_
          refine r_i2l B dX5_isTerm_85 ?_
          refine r_ldc2 B dX5_isTerm_86 q1835 ?_
          refine r_ldc2 B dX5_isTerm_89 q1759 ?_
          obtain ⟨r13, s14, hc15, h⟩ := bnd_e h
          refine r_callSv (As := [vl ((p1).toInt64), vl (2 : Int64), vl (3 : Int64)]) (rest := []) B rfl EX.same (c_X5_in B.ge hS hc15) (cw_X5_in rfl rfl) q1740 q1741 rfl dX5_isTerm_92 ?_
          obtain ⟨hg16, h⟩ := gd_e h
          exact r_zret B dX5_isTerm_95 hg16 h
        · have h := of c1_3 h
          by_cases c1_4 : p0 = (4 : Int32)
          · have h := ot c1_4 h
            refine r_tin (tgt := 96) B dX5_isTerm_1 c1_4 (by decide) (by decide) (off := 95) (by decide) (by decide) ?_
            refine r_iload_n (j := 1) B dX5_isTerm_96 rfl rfl ?_
            refine r_i2l B dX5_isTerm_97 ?_
            refine r_lconst (v := 0) B dX5_isTerm_98 (by decide) ?_
            refine r_ldc2 B dX5_isTerm_99 q1833 ?_
            obtain ⟨r17, s18, hc19, h⟩ := bnd_e h
            refine r_callSv (As := [vl ((p1).toInt64), vl (0 : Int64), vl (5 : Int64)]) (rest := []) B rfl EX.same (c_X5_in B.ge hS hc19) (cw_X5_in rfl rfl) q1740 q1741 rfl dX5_isTerm_102 ?_
            obtain ⟨hg20, h⟩ := gd_e h
            exact r_zret B dX5_isTerm_105 hg20 h
          · have h := of c1_4 h
            by_cases c1_5 : p0 = (5 : Int32)
            · have h := ot c1_5 h
              refine r_tin (tgt := 106) B dX5_isTerm_1 c1_5 (by decide) (by decide) (off := 105) (by decide) (by decide) ?_
              refine r_iload_n (j := 1) B dX5_isTerm_106 rfl rfl ?_
              refine r_i2l B dX5_isTerm_107 ?_
              refine r_lconst (v := 0) B dX5_isTerm_108 (by decide) ?_
              refine r_ldc2 B dX5_isTerm_109 q1835 ?_
              obtain ⟨r21, s22, hc23, h⟩ := bnd_e h
              refine r_callSv (As := [vl ((p1).toInt64), vl (0 : Int64), vl (2 : Int64)]) (rest := []) B rfl EX.same (c_X5_in B.ge hS hc23) (cw_X5_in rfl rfl) q1740 q1741 rfl dX5_isTerm_112 ?_
              obtain ⟨hg24, h⟩ := gd_e h
              exact r_zret B dX5_isTerm_115 hg24 h
            · have h := of c1_5 h
              by_cases c1_6 : p0 = (6 : Int32)
              · have h := ot c1_6 h
                refine r_tin (tgt := 116) B dX5_isTerm_1 c1_6 (by decide) (by decide) (off := 115) (by decide) (by decide) ?_
                refine r_iload_n (j := 1) B dX5_isTerm_116 rfl rfl ?_
                refine r_i2l B dX5_isTerm_117 ?_
                refine r_ldc2 B dX5_isTerm_118 q1782 ?_
                refine r_ldc2 B dX5_isTerm_121 q1758 ?_
                obtain ⟨r25, s26, hc27, h⟩ := bnd_e h
                refine r_callSv (As := [vl ((p1).toInt64), vl (-1 : Int64), vl (35 : Int64)]) (rest := []) B rfl EX.same (c_X5_in B.ge hS hc27) (cw_X5_in rfl rfl) q1740 q1741 rfl dX5_isTerm_124 ?_
                obtain ⟨hg28, h⟩ := gd_e h
                exact r_zret B dX5_isTerm_127 hg28 h
              · have h := of c1_6 h
                by_cases c1_7 : p0 = (7 : Int32)
                · have h := ot c1_7 h
                  refine r_tin (tgt := 128) B dX5_isTerm_1 c1_7 (by decide) (by decide) (off := 127) (by decide) (by decide) ?_
                  refine r_iload_n (j := 1) B dX5_isTerm_128 rfl rfl ?_
                  refine r_i2l B dX5_isTerm_129 ?_
                  refine r_lconst (v := 1) B dX5_isTerm_130 (by decide) ?_
                  refine r_ldc2 B dX5_isTerm_131 q1761 ?_
                  obtain ⟨r29, s30, hc31, h⟩ := bnd_e h
                  refine r_callSv (As := [vl ((p1).toInt64), vl (1 : Int64), vl (9 : Int64)]) (rest := []) B rfl EX.same (c_X5_in B.ge hS hc31) (cw_X5_in rfl rfl) q1740 q1741 rfl dX5_isTerm_134 ?_
                  obtain ⟨hg32, h⟩ := gd_e h
                  exact r_zret B dX5_isTerm_137 hg32 h
                · have h := of c1_7 h
                  by_cases c1_8 : p0 = (8 : Int32)
                  · have h := ot c1_8 h
                    refine r_tin (tgt := 138) B dX5_isTerm_1 c1_8 (by decide) (by decide) (off := 137) (by decide) (by decide) ?_
                    refine r_iload_n (j := 1) B dX5_isTerm_138 rfl rfl ?_
                    refine r_i2l B dX5_isTerm_139 ?_
                    refine r_lconst (v := 0) B dX5_isTerm_140 (by decide) ?_
                    refine r_ldc2 B dX5_isTerm_141 q1761 ?_
                    obtain ⟨r33, s34, hc35, h⟩ := bnd_e h
                    refine r_callSv (As := [vl ((p1).toInt64), vl (0 : Int64), vl (9 : Int64)]) (rest := []) B rfl EX.same (c_X5_in B.ge hS hc35) (cw_X5_in rfl rfl) q1740 q1741 rfl dX5_isTerm_144 ?_
                    obtain ⟨hg36, h⟩ := gd_e h
                    exact r_zret B dX5_isTerm_147 hg36 h
                  · have h := of c1_8 h
                    refine r_tout (tgt := 148) B dX5_isTerm_1 (by have t0 := lv_neT (a := 0) c1_0 (by decide); have t1 := lv_neT (a := 1) c1_1 (by decide); have t2 := lv_neT (a := 2) c1_2 (by decide); have t3 := lv_neT (a := 3) c1_3 (by decide); have t4 := lv_neT (a := 4) c1_4 (by decide); have t5 := lv_neT (a := 5) c1_5 (by decide); have t6 := lv_neT (a := 6) c1_6 (by decide); have t7 := lv_neT (a := 7) c1_7 (by decide); have t8 := lv_neT (a := 8) c1_8 (by decide); omega) (by decide) ?_
                    refine r_iconst (v := 0) B dX5_isTerm_148 (by decide) ?_
                    exact r_zret B dX5_isTerm_149 (by decide) h
set_option maxHeartbeats 4000000 in
theorem cw_X5_isTerm {X : CX} {fr lo : Nat} (h1 : Nat.ble (1 + 1) fr = true) (h2 : Nat.ble (21 + 25) lo = true) : CW X fr lo yX5_isTerm cX5_isTerm 2 (some .boolean) 1 25 2 := ⟨q1832, q136, ⟨by decide +kernel, by decide +kernel, by decide +kernel⟩, Nat.le_of_ble_eq_true h1, Nat.le_of_ble_eq_true h2⟩

set_option maxHeartbeats 4000000 in
noncomputable def F_X5_terms (s : St) (p0 : Int32) (p1 : Int32) : Option (Int32 × St) := nam (setI s 0 0 (0 : Int32)) fun s1 => bnd (F_X5_isTerm s1 p0 p1) fun r3 s4 => if r3 = 0 then (bnd (F_X5_tell s4 (-1 : Int32)) fun r7 s8 => some (r7, s8)) else (bnd (F_X5_set1 s4 ((4 : Int32) + p0) p1) fun r10 s11 => some (r10, s11))
set_option maxHeartbeats 4000000 in
theorem c_X5_terms {l : Launch} {E : EV} (hE : GE E) (hS : ∀ σ, eSk E σ → SkM σ) {s s' : St} {r : Int32} {p0 : Int32} {p1 : Int32} (h : F_X5_terms  s p0 p1 = some (r, s')) : CT l E yX5_terms cX5_terms 3 (some .int) 2 46 [vr (some 0), vi p0, vi p1] s (some (vi r)) s' := by
  refine CT.start hE (by decide) rfl [(0, vr (some 0)), (1, vi p0), (2, vi p1)] rfl (fun X hX B => ?_)
  skip
  have B : FX X E cX5_terms 3 (some .int) "RoseThrowModel" "terms" (sn s) (ss s) 2 46 := B
  unfold F_X5_terms at h
  refine r_aload_n (j := 0) B dX5_terms_0 rfl rfl ?_
  refine r_iconst (v := 0) B dX5_terms_1 (by decide) ?_
  obtain ⟨s1, e2, h⟩ := nam_e h
  refine pI5 (k := 0) B e2 rfl (fun z => by rw [(hS _ z).1 0 (by decide)]; rfl) rfl q1517 rfl rfl (fun _ _ _ => rfl) rfl dX5_terms_2 ?_
  refine r_iload_n (j := 1) B dX5_terms_5 rfl rfl ?_
  refine r_iload_n (j := 2) B dX5_terms_6 rfl rfl ?_
  obtain ⟨r3, s4, hc5, h⟩ := bnd_e h
  refine r_callSv (As := [vi p0, vi p1]) (rest := []) B rfl EX.same (c_X5_isTerm B.ge hS hc5) (cw_X5_isTerm rfl rfl) q1830 q1831 rfl dX5_terms_7 ?_
  refine r_if_eq (tgt := 24) B dX5_terms_10 (by decide) (fun cn6 => ?_) (fun cn6 => ?_)
  · have h := ot cn6 h
    refine r_aload_n (j := 0) B dX5_terms_24 rfl rfl ?_
    refine r_iconst (v := -1) B dX5_terms_25 (by decide) ?_
    obtain ⟨r7, s8, hc9, h⟩ := bnd_e h
    refine r_callVv (As := [vi (-1 : Int32)]) (rest := []) B rfl rfl EX.same (c_X5_tell B.ge hS hc9) (cw_X5_tell rfl rfl) (fun z => RV.of 5 ((fun z => by rw [(hS _ z).1 0 (by decide)]; rfl) z) rfl rfl qs47) q1724 q1726 rfl dX5_terms_26 ?_
    exact r_iret B dX5_terms_29 h
  · have h := of cn6 h
    refine r_aload_n (j := 0) B dX5_terms_13 rfl rfl ?_
    refine r_iconst (v := 4) B dX5_terms_14 (by decide) ?_
    refine r_iload_n (j := 1) B dX5_terms_15 rfl rfl ?_
    refine r_iadd B dX5_terms_16 ?_
    refine r_iload_n (j := 2) B dX5_terms_17 rfl rfl ?_
    obtain ⟨r10, s11, hc12, h⟩ := bnd_e h
    refine r_callVv (As := [vi ((4 : Int32) + p0), vi p1]) (rest := []) B rfl rfl EX.same (c_X5_set1 B.ge hS hc12) (cw_X5_set1 rfl rfl) (fun z => RV.of 5 ((fun z => by rw [(hS _ z).1 0 (by decide)]; rfl) z) rfl rfl qs63) q1817 q1819 rfl dX5_terms_18 ?_
    refine r_goto (tgt := 29) B dX5_terms_21 (by decide) ?_
    exact r_iret B dX5_terms_29 h
set_option maxHeartbeats 4000000 in
theorem cw_X5_terms {X : CX} {fr lo : Nat} (h1 : Nat.ble (2 + 1) fr = true) (h2 : Nat.ble (22 + 46) lo = true) : CW X fr lo yX5_terms cX5_terms 3 (some .int) 2 46 2 := ⟨q1829, q136, ⟨by decide +kernel, by decide +kernel, by decide +kernel⟩, Nat.le_of_ble_eq_true h1, Nat.le_of_ble_eq_true h2⟩

set_option maxHeartbeats 4000000 in
noncomputable def F_X5_row_90 (k35 : St → Int32 → Int32 → Int32 → Option (Int32 × St)) (s : St) (x1 : Int32) (x2 : Int32) (x3 : Int32) : Option (Int32 × St) := nam (setI s 0 12 ((si s 0 12) + (1 : Int32))) fun s1 => k35 s1 x1 x2 (x3 + (4))
set_option maxHeartbeats 4000000 in
theorem w_X5_row_90 {X : CX} {E : EV} {a0 s' : St} {r : Int32} (B : FX X E cX5_row 4 (some .int) "RoseThrowModel" "row" (sn a0) (ss a0) 7 170) (hS : ∀ σ, eSk E σ → SkM σ) (k35 : St → Int32 → Int32 → Int32 → Option (Int32 × St)) (hk35 : ∀ (s : St) (x1 : Int32) (x2 : Int32) (x3 : Int32), k35 s x1 x2 x3 = some (r, s') → J X E (sn a0) (ss a0) 4 (QR X E a0 (some (vi r)) s') s 35 [(0, vr (some 0)), (1, vi x1), (2, vi x2), (3, vi x3)] []) (s : St) (x1 : Int32) (x2 : Int32) (x3 : Int32) (h : F_X5_row_90  k35 s x1 x2 x3 = some (r, s')) : J X E (sn a0) (ss a0) 4 (QR X E a0 (some (vi r)) s') s 90 [(0, vr (some 0)), (1, vi x1), (2, vi x2), (3, vi x3)] [] := by
  unfold F_X5_row_90 at h
  refine r_aload_n (j := 0) B dX5_row_90 rfl rfl ?_
  refine r_dup B dX5_row_91 rfl ?_
  refine g5 (k := 12) B (vi (si s 0 12)) rfl (fun z => by rw [(hS _ z).1 0 (by decide)]; rfl) rfl q1529 rfl (fun _ => rfl) dX5_row_92 ?_
  refine r_iconst (v := 1) B dX5_row_95 (by decide) ?_
  refine r_iadd B dX5_row_96 ?_
  obtain ⟨s1, e2, h⟩ := nam_e h
  refine pI5 (k := 12) B e2 rfl (fun z => by rw [(hS _ z).1 0 (by decide)]; rfl) rfl q1529 rfl rfl (fun _ _ _ => rfl) rfl dX5_row_97 ?_
  refine r_iinc (j := 3) (v := (x3 + (4))) (L' := [(0, vr (some 0)), (1, vi x1), (2, vi x2), (3, vi (x3 + (4)))]) B dX5_row_100 rfl rfl (by decide) rfl rfl rfl ?_
  refine r_goto (tgt := 35) B dX5_row_103 (by decide) ?_
  exact hk35 s1 x1 x2 (x3 + (4)) h
set_option maxHeartbeats 4000000 in
noncomputable def F_X5_row_35 : Nat → St → Int32 → Int32 → Int32 → Option (Int32 × St)
  | 0 => fun _ _ _ _ => none
  | n + 1 => fun s x1 x2 x3 => if x1 ≤ x3 then (bnd (F_X5_settled s x2) fun r2 s3 => some (r2, s3)) else (if x1 ≤ (x3 + (3 : Int32)) then (F_X5_row_90 (F_X5_row_35  n) s x1 x2 x3) else (gd (inb x3 400) <| gd (inb (x3 + (1 : Int32)) 400) <| gd (inb (x3 + (2 : Int32)) 400) <| gd (inb (x3 + (3 : Int32)) 400) <| bnd (F_X5_catcher1 s (si s 10 x3.toNatClampNeg) (si s 10 (x3 + (1 : Int32)).toNatClampNeg) (si s 10 (x3 + (2 : Int32)).toNatClampNeg) (si s 10 (x3 + (3 : Int32)).toNatClampNeg)) fun r10 s11 => if r10 < 0 then (F_X5_row_90 (F_X5_row_35  n) s11 x1 x2 x3) else (F_X5_row_35  n s11 x1 (x2 + (1)) (x3 + (4)))))
set_option maxHeartbeats 4000000 in
theorem w_X5_row_35 {X : CX} {E : EV} {a0 s' : St} {r : Int32} (B : FX X E cX5_row 4 (some .int) "RoseThrowModel" "row" (sn a0) (ss a0) 7 170) (hS : ∀ σ, eSk E σ → SkM σ) : ∀ (n : Nat) (s : St) (x1 : Int32) (x2 : Int32) (x3 : Int32), F_X5_row_35   n s x1 x2 x3 = some (r, s') → J X E (sn a0) (ss a0) 4 (QR X E a0 (some (vi r)) s') s 35 [(0, vr (some 0)), (1, vi x1), (2, vi x2), (3, vi x3)] [] := by
  intro n
  induction n with
  | zero => intro s x1 x2 x3 h; exact absurd (show (none : Option (Int32 × St)) = _ from h) (by simp)
  | succ n ih =>
    intro s x1 x2 x3 h
    rw [F_X5_row_35] at h
    refine r_iload_n (j := 3) B dX5_row_35 rfl rfl ?_
    refine r_iload_n (j := 1) B dX5_row_36 rfl rfl ?_
    refine r_ic_ge (tgt := 106) B dX5_row_37 (by decide) (fun cn1 => ?_) (fun cn1 => ?_)
    · have h := ot cn1 h
      refine r_aload_n (j := 0) B dX5_row_106 rfl rfl ?_
      refine r_iload_n (j := 2) B dX5_row_107 rfl rfl ?_
      obtain ⟨r2, s3, hc4, h⟩ := bnd_e h
      refine r_callVv (As := [vi x2]) (rest := []) B rfl rfl EX.same (c_X5_settled B.ge hS hc4) (cw_X5_settled rfl rfl) (fun z => RV.of 5 ((fun z => by rw [(hS _ z).1 0 (by decide)]; rfl) z) rfl rfl qs62) q1809 q1811 rfl dX5_row_108 ?_
      exact r_iret B dX5_row_111 h
    · have h := of cn1 h
      refine r_iload_n (j := 3) B dX5_row_40 rfl rfl ?_
      refine r_iconst (v := 3) B dX5_row_41 (by decide) ?_
      refine r_iadd B dX5_row_42 ?_
      refine r_iload_n (j := 1) B dX5_row_43 rfl rfl ?_
      refine r_ic_ge (tgt := 90) B dX5_row_44 (by decide) (fun cn5 => ?_) (fun cn5 => ?_)
      · have h := ot cn5 h
        exact w_X5_row_90 B hS (F_X5_row_35  n) ih s x1 x2 x3 h
      · have h := of cn5 h
        refine r_aload_n (j := 0) B dX5_row_47 rfl rfl ?_
        refine r_aload_n (j := 0) B dX5_row_48 rfl rfl ?_
        refine g5 (k := 13) B (vr (some 10)) rfl (fun z => by rw [(hS _ z).1 0 (by decide)]; rfl) rfl q1530 rfl (fun z => by rw [(hS _ z).2 _ (List.mem_of_getElem? (i := 9) rfl)]; rfl) dX5_row_49 ?_
        refine r_iload_n (j := 3) B dX5_row_52 rfl rfl ?_
        obtain ⟨hg6, h⟩ := gd_e h
        refine r_iald B rfl (fun z => (hS _ z).1 10 (by decide)) hg6 dX5_row_53 ?_
        refine r_aload_n (j := 0) B dX5_row_54 rfl rfl ?_
        refine g5 (k := 13) B (vr (some 10)) rfl (fun z => by rw [(hS _ z).1 0 (by decide)]; rfl) rfl q1530 rfl (fun z => by rw [(hS _ z).2 _ (List.mem_of_getElem? (i := 9) rfl)]; rfl) dX5_row_55 ?_
        refine r_iload_n (j := 3) B dX5_row_58 rfl rfl ?_
        refine r_iconst (v := 1) B dX5_row_59 (by decide) ?_
        refine r_iadd B dX5_row_60 ?_
        obtain ⟨hg7, h⟩ := gd_e h
        refine r_iald B rfl (fun z => (hS _ z).1 10 (by decide)) hg7 dX5_row_61 ?_
        refine r_aload_n (j := 0) B dX5_row_62 rfl rfl ?_
        refine g5 (k := 13) B (vr (some 10)) rfl (fun z => by rw [(hS _ z).1 0 (by decide)]; rfl) rfl q1530 rfl (fun z => by rw [(hS _ z).2 _ (List.mem_of_getElem? (i := 9) rfl)]; rfl) dX5_row_63 ?_
        refine r_iload_n (j := 3) B dX5_row_66 rfl rfl ?_
        refine r_iconst (v := 2) B dX5_row_67 (by decide) ?_
        refine r_iadd B dX5_row_68 ?_
        obtain ⟨hg8, h⟩ := gd_e h
        refine r_iald B rfl (fun z => (hS _ z).1 10 (by decide)) hg8 dX5_row_69 ?_
        refine r_aload_n (j := 0) B dX5_row_70 rfl rfl ?_
        refine g5 (k := 13) B (vr (some 10)) rfl (fun z => by rw [(hS _ z).1 0 (by decide)]; rfl) rfl q1530 rfl (fun z => by rw [(hS _ z).2 _ (List.mem_of_getElem? (i := 9) rfl)]; rfl) dX5_row_71 ?_
        refine r_iload_n (j := 3) B dX5_row_74 rfl rfl ?_
        refine r_iconst (v := 3) B dX5_row_75 (by decide) ?_
        refine r_iadd B dX5_row_76 ?_
        obtain ⟨hg9, h⟩ := gd_e h
        refine r_iald B rfl (fun z => (hS _ z).1 10 (by decide)) hg9 dX5_row_77 ?_
        obtain ⟨r10, s11, hc12, h⟩ := bnd_e h
        refine r_callVv (As := [vi (si s 10 x3.toNatClampNeg), vi (si s 10 (x3 + (1 : Int32)).toNatClampNeg), vi (si s 10 (x3 + (2 : Int32)).toNatClampNeg), vi (si s 10 (x3 + (3 : Int32)).toNatClampNeg)]) (rest := []) B rfl rfl EX.same (c_X5_catcher1 B.ge hS hc12) (cw_X5_catcher1 rfl rfl) (fun z => RV.of 5 ((fun z => by rw [(hS _ z).1 0 (by decide)]; rfl) z) rfl rfl qs50) q1751 q1753 rfl dX5_row_78 ?_
        refine r_if_lt (tgt := 90) B dX5_row_81 (by decide) (fun cn13 => ?_) (fun cn13 => ?_)
        · have h := ot cn13 h
          exact w_X5_row_90 B hS (F_X5_row_35  n) ih s11 x1 x2 x3 h
        · have h := of cn13 h
          refine r_iinc (j := 2) (v := (x2 + (1))) (L' := [(0, vr (some 0)), (1, vi x1), (2, vi (x2 + (1))), (3, vi x3)]) B dX5_row_84 rfl rfl (by decide) rfl rfl rfl ?_
          refine r_goto (tgt := 100) B dX5_row_87 (by decide) ?_
          refine r_iinc (j := 3) (v := (x3 + (4))) (L' := [(0, vr (some 0)), (1, vi x1), (2, vi (x2 + (1))), (3, vi (x3 + (4)))]) B dX5_row_100 rfl rfl (by decide) rfl rfl rfl ?_
          refine r_goto (tgt := 35) B dX5_row_103 (by decide) ?_
          exact ih s11 x1 (x2 + (1)) (x3 + (4)) h
set_option maxHeartbeats 4000000 in
noncomputable def F_X5_row (s : St)  : Option (Int32 × St) := nam (setI s 0 0 (0 : Int32)) fun s1 => nam (setI s1 0 14 (0 : Int32)) fun s3 => if (si s1 0 14) = 0 then (bnd (F_X5_tell s3 (-6 : Int32)) fun r8 s9 => some (r8, s9)) else (nam (setI s3 0 12 (0 : Int32)) fun s6 => F_X5_row_35 FU s6 (si s1 0 14) (0 : Int32) (0 : Int32))
set_option maxHeartbeats 4000000 in
theorem c_X5_row {l : Launch} {E : EV} (hE : GE E) (hS : ∀ σ, eSk E σ → SkM σ) {s s' : St} {r : Int32}  (h : F_X5_row  s  = some (r, s')) : CT l E yX5_row cX5_row 4 (some .int) 7 170 [vr (some 0)] s (some (vi r)) s' := by
  refine CT.start hE (by decide) rfl [(0, vr (some 0))] rfl (fun X hX B => ?_)
  skip
  have B : FX X E cX5_row 4 (some .int) "RoseThrowModel" "row" (sn s) (ss s) 7 170 := B
  unfold F_X5_row at h
  refine r_aload_n (j := 0) B dX5_row_0 rfl rfl ?_
  refine r_iconst (v := 0) B dX5_row_1 (by decide) ?_
  obtain ⟨s1, e2, h⟩ := nam_e h
  refine pI5 (k := 0) B e2 rfl (fun z => by rw [(hS _ z).1 0 (by decide)]; rfl) rfl q1517 rfl rfl (fun _ _ _ => rfl) rfl dX5_row_2 ?_
  refine r_aload_n (j := 0) B dX5_row_5 rfl rfl ?_
  refine g5 (k := 14) B (vi (si s1 0 14)) rfl (fun z => by rw [(hS _ z).1 0 (by decide)]; rfl) rfl q1531 rfl (fun _ => rfl) dX5_row_6 ?_
  refine r_istore_n (L' := [(0, vr (some 0)), (1, vi (si s1 0 14))]) B dX5_row_9 rfl (by decide) rfl rfl rfl ?_
  refine r_aload_n (j := 0) B dX5_row_10 rfl rfl ?_
  refine r_iconst (v := 0) B dX5_row_11 (by decide) ?_
  obtain ⟨s3, e4, h⟩ := nam_e h
  refine pI5 (k := 14) B e4 rfl (fun z => by rw [(hS _ z).1 0 (by decide)]; rfl) rfl q1531 rfl rfl (fun _ _ _ => rfl) rfl dX5_row_12 ?_
  refine r_iload_n (j := 1) B dX5_row_15 rfl rfl ?_
  refine r_if_ne (tgt := 26) B dX5_row_16 (by decide) (fun cn5 => ?_) (fun cn5 => ?_)
  · have h := of cn5 h
    refine r_aload_n (j := 0) B dX5_row_26 rfl rfl ?_
    refine r_iconst (v := 0) B dX5_row_27 (by decide) ?_
    obtain ⟨s6, e7, h⟩ := nam_e h
    refine pI5 (k := 12) B e7 rfl (fun z => by rw [(hS _ z).1 0 (by decide)]; rfl) rfl q1529 rfl rfl (fun _ _ _ => rfl) rfl dX5_row_28 ?_
    refine r_iconst (v := 0) B dX5_row_31 (by decide) ?_
    refine r_istore_n (L' := [(0, vr (some 0)), (1, vi (si s1 0 14)), (2, vi (0 : Int32))]) B dX5_row_32 rfl (by decide) rfl rfl rfl ?_
    refine r_iconst (v := 0) B dX5_row_33 (by decide) ?_
    refine r_istore_n (L' := [(0, vr (some 0)), (1, vi (si s1 0 14)), (2, vi (0 : Int32)), (3, vi (0 : Int32))]) B dX5_row_34 rfl (by decide) rfl rfl rfl ?_
    exact w_X5_row_35 B hS FU s6 (si s1 0 14) (0 : Int32) (0 : Int32) h
  · have h := ot cn5 h
    refine r_aload_n (j := 0) B dX5_row_19 rfl rfl ?_
    refine r_bipush (v := -6) B dX5_row_20 (by decide) ?_
    obtain ⟨r8, s9, hc10, h⟩ := bnd_e h
    refine r_callVv (As := [vi (-6 : Int32)]) (rest := []) B rfl rfl EX.same (c_X5_tell B.ge hS hc10) (cw_X5_tell rfl rfl) (fun z => RV.of 5 ((fun z => by rw [(hS _ z).1 0 (by decide)]; rfl) z) rfl rfl qs47) q1724 q1726 rfl dX5_row_22 ?_
    exact r_iret B dX5_row_25 h
set_option maxHeartbeats 4000000 in
theorem cw_X5_row {X : CX} {fr lo : Nat} (h1 : Nat.ble (7 + 1) fr = true) (h2 : Nat.ble (23 + 170) lo = true) : CW X fr lo yX5_row cX5_row 4 (some .int) 7 170 0 := ⟨q1839, q136, ⟨by decide +kernel, by decide +kernel, by decide +kernel⟩, Nat.le_of_ble_eq_true h1, Nat.le_of_ble_eq_true h2⟩

set_option maxHeartbeats 4000000 in
noncomputable def F_X5_rice (s : St)  : Option (Int32 × St) := nam (setI s 0 0 (0 : Int32)) fun s1 => some ((si s1 0 12), s1)
set_option maxHeartbeats 4000000 in
theorem c_X5_rice {l : Launch} {E : EV} (hE : GE E) (hS : ∀ σ, eSk E σ → SkM σ) {s s' : St} {r : Int32}  (h : F_X5_rice  s  = some (r, s')) : CT l E yX5_rice cX5_rice 1 (some .int) 0 0 [vr (some 0)] s (some (vi r)) s' := by
  refine CT.start hE (by decide) rfl [(0, vr (some 0))] rfl (fun X hX B => ?_)
  skip
  have B : FX X E cX5_rice 1 (some .int) "RoseThrowModel" "rice" (sn s) (ss s) 0 0 := B
  unfold F_X5_rice at h
  refine r_aload_n (j := 0) B dX5_rice_0 rfl rfl ?_
  refine r_iconst (v := 0) B dX5_rice_1 (by decide) ?_
  obtain ⟨s1, e2, h⟩ := nam_e h
  refine pI5 (k := 0) B e2 rfl (fun z => by rw [(hS _ z).1 0 (by decide)]; rfl) rfl q1517 rfl rfl (fun _ _ _ => rfl) rfl dX5_rice_2 ?_
  refine r_aload_n (j := 0) B dX5_rice_5 rfl rfl ?_
  refine g5 (k := 12) B (vi (si s1 0 12)) rfl (fun z => by rw [(hS _ z).1 0 (by decide)]; rfl) rfl q1529 rfl (fun _ => rfl) dX5_rice_6 ?_
  exact r_iret B dX5_rice_9 h
set_option maxHeartbeats 4000000 in
theorem cw_X5_rice {X : CX} {fr lo : Nat} (h1 : Nat.ble (0 + 1) fr = true) (h2 : Nat.ble (20 + 0) lo = true) : CW X fr lo yX5_rice cX5_rice 1 (some .int) 0 0 0 := ⟨q1843, q136, ⟨by decide +kernel, by decide +kernel, by decide +kernel⟩, Nat.le_of_ble_eq_true h1, Nat.le_of_ble_eq_true h2⟩

set_option maxHeartbeats 4000000 in
noncomputable def F_X5_four_3 : Nat → St → Int32 → Int32 → Option (Unit × St)
  | 0 => fun _ _ _ => none
  | n + 1 => fun s x1 x2 => if x2 < 0 then (some ((), s)) else (gd (inb (si s 0 14) 400) <| nam (setI s 10 (si s 0 14).toNatClampNeg ((x1 >>> (x2 &&& 31)) &&& (255 : Int32))) fun s3 => nam (setI s3 0 14 ((si s3 0 14) + (1 : Int32))) fun s5 => F_X5_four_3  n s5 x1 (x2 + (-8)))
set_option maxHeartbeats 4000000 in
theorem w_X5_four_3 {X : CX} {E : EV} {a0 s' : St} {r : Unit} (B : FX X E cX5_four 3 none "RoseThrowModel" "four" (sn a0) (ss a0) 0 0) (hS : ∀ σ, eSk E σ → SkM σ) : ∀ (n : Nat) (s : St) (x1 : Int32) (x2 : Int32), F_X5_four_3   n s x1 x2 = some (r, s') → J X E (sn a0) (ss a0) 3 (QR X E a0 none s') s 3 [(0, vr (some 0)), (1, vi x1), (2, vi x2)] [] := by
  intro n
  induction n with
  | zero => intro s x1 x2 h; exact absurd (show (none : Option (Unit × St)) = _ from h) (by simp)
  | succ n ih =>
    intro s x1 x2 h
    rw [F_X5_four_3] at h
    refine r_iload_n (j := 2) B dX5_four_3 rfl rfl ?_
    refine r_if_lt (tgt := 39) B dX5_four_4 (by decide) (fun cn1 => ?_) (fun cn1 => ?_)
    · have h := ot cn1 h
      exact r_vret B dX5_four_39 h
    · have h := of cn1 h
      refine r_aload_n (j := 0) B dX5_four_7 rfl rfl ?_
      refine g5 (k := 13) B (vr (some 10)) rfl (fun z => by rw [(hS _ z).1 0 (by decide)]; rfl) rfl q1530 rfl (fun z => by rw [(hS _ z).2 _ (List.mem_of_getElem? (i := 9) rfl)]; rfl) dX5_four_8 ?_
      refine r_aload_n (j := 0) B dX5_four_11 rfl rfl ?_
      refine g5 (k := 14) B (vi (si s 0 14)) rfl (fun z => by rw [(hS _ z).1 0 (by decide)]; rfl) rfl q1531 rfl (fun _ => rfl) dX5_four_12 ?_
      refine r_iload_n (j := 1) B dX5_four_15 rfl rfl ?_
      refine r_iload_n (j := 2) B dX5_four_16 rfl rfl ?_
      refine r_ishr B dX5_four_17 ?_
      refine r_sipush (v := 255) B dX5_four_18 (by decide) ?_
      refine r_iand B dX5_four_21 ?_
      obtain ⟨hg2, h⟩ := gd_e h
      obtain ⟨s3, e4, h⟩ := nam_e h
      refine r_iast B e4 rfl (fun z => (hS _ z).1 10 (by decide)) hg2 dX5_four_22 ?_
      refine r_aload_n (j := 0) B dX5_four_23 rfl rfl ?_
      refine r_dup B dX5_four_24 rfl ?_
      refine g5 (k := 14) B (vi (si s3 0 14)) rfl (fun z => by rw [(hS _ z).1 0 (by decide)]; rfl) rfl q1531 rfl (fun _ => rfl) dX5_four_25 ?_
      refine r_iconst (v := 1) B dX5_four_28 (by decide) ?_
      refine r_iadd B dX5_four_29 ?_
      obtain ⟨s5, e6, h⟩ := nam_e h
      refine pI5 (k := 14) B e6 rfl (fun z => by rw [(hS _ z).1 0 (by decide)]; rfl) rfl q1531 rfl rfl (fun _ _ _ => rfl) rfl dX5_four_30 ?_
      refine r_iinc (j := 2) (v := (x2 + (-8))) (L' := [(0, vr (some 0)), (1, vi x1), (2, vi (x2 + (-8)))]) B dX5_four_33 rfl rfl (by decide) rfl rfl rfl ?_
      refine r_goto (tgt := 3) B dX5_four_36 (by decide) ?_
      exact ih s5 x1 (x2 + (-8)) h
set_option maxHeartbeats 4000000 in
noncomputable def F_X5_four (s : St) (p0 : Int32) : Option (Unit × St) := F_X5_four_3 FU s p0 (24 : Int32)
set_option maxHeartbeats 4000000 in
theorem c_X5_four {l : Launch} {E : EV} (hE : GE E) (hS : ∀ σ, eSk E σ → SkM σ) {s s' : St} {r : Unit} {p0 : Int32} (h : F_X5_four  s p0 = some (r, s')) : CT l E yX5_four cX5_four 3 none 0 0 [vr (some 0), vi p0] s none s' := by
  refine CT.start hE (by decide) rfl [(0, vr (some 0)), (1, vi p0)] rfl (fun X hX B => ?_)
  skip
  have B : FX X E cX5_four 3 none "RoseThrowModel" "four" (sn s) (ss s) 0 0 := B
  unfold F_X5_four at h
  refine r_bipush (v := 24) B dX5_four_0 (by decide) ?_
  refine r_istore_n (L' := [(0, vr (some 0)), (1, vi p0), (2, vi (24 : Int32))]) B dX5_four_2 rfl (by decide) rfl rfl rfl ?_
  exact w_X5_four_3 B hS FU s p0 (24 : Int32) h
set_option maxHeartbeats 4000000 in
theorem cw_X5_four {X : CX} {fr lo : Nat} (h1 : Nat.ble (0 + 1) fr = true) (h2 : Nat.ble (22 + 0) lo = true) : CW X fr lo yX5_four cX5_four 3 none 0 0 1 := ⟨q1851, q136, ⟨by decide +kernel, by decide +kernel, by decide +kernel⟩, Nat.le_of_ble_eq_true h1, Nat.le_of_ble_eq_true h2⟩

set_option maxHeartbeats 4000000 in
noncomputable def F_X5_feed (s : St) (p0 : Int32) (p1 : Int32) (p2 : Int32) (p3 : Int32) (p4 : Int32) : Option (Int32 × St) := nam (setI s 0 0 (0 : Int32)) fun s1 => if ((si s1 0 14) + (20 : Int32)) ≤ (400 : Int32) then (bnd (F_X5_four s1 p0) fun _ s5 => bnd (F_X5_four s5 p1) fun _ s8 => bnd (F_X5_four s8 p2) fun _ s11 => bnd (F_X5_four s11 p3) fun _ s14 => bnd (F_X5_four s14 p4) fun _ s17 => some ((si s17 0 14), s17)) else (some ((-1 : Int32), s1))
set_option maxHeartbeats 4000000 in
theorem c_X5_feed {l : Launch} {E : EV} (hE : GE E) (hS : ∀ σ, eSk E σ → SkM σ) {s s' : St} {r : Int32} {p0 : Int32} {p1 : Int32} {p2 : Int32} {p3 : Int32} {p4 : Int32} (h : F_X5_feed  s p0 p1 p2 p3 p4 = some (r, s')) : CT l E yX5_feed cX5_feed 6 (some .int) 1 22 [vr (some 0), vi p0, vi p1, vi p2, vi p3, vi p4] s (some (vi r)) s' := by
  refine CT.start hE (by decide) rfl [(0, vr (some 0)), (1, vi p0), (2, vi p1), (3, vi p2), (4, vi p3), (5, vi p4)] rfl (fun X hX B => ?_)
  skip
  have B : FX X E cX5_feed 6 (some .int) "RoseThrowModel" "feed" (sn s) (ss s) 1 22 := B
  unfold F_X5_feed at h
  refine r_aload_n (j := 0) B dX5_feed_0 rfl rfl ?_
  refine r_iconst (v := 0) B dX5_feed_1 (by decide) ?_
  obtain ⟨s1, e2, h⟩ := nam_e h
  refine pI5 (k := 0) B e2 rfl (fun z => by rw [(hS _ z).1 0 (by decide)]; rfl) rfl q1517 rfl rfl (fun _ _ _ => rfl) rfl dX5_feed_2 ?_
  refine r_aload_n (j := 0) B dX5_feed_5 rfl rfl ?_
  refine g5 (k := 14) B (vi (si s1 0 14)) rfl (fun z => by rw [(hS _ z).1 0 (by decide)]; rfl) rfl q1531 rfl (fun _ => rfl) dX5_feed_6 ?_
  refine r_bipush (v := 20) B dX5_feed_9 (by decide) ?_
  refine r_iadd B dX5_feed_11 ?_
  refine r_sipush (v := 400) B dX5_feed_12 (by decide) ?_
  refine r_ic_le (tgt := 20) B dX5_feed_15 (by decide) (fun cn3 => ?_) (fun cn3 => ?_)
  · have h := ot cn3 h
    refine r_aload_n (j := 0) B dX5_feed_20 rfl rfl ?_
    refine r_iload_n (j := 1) B dX5_feed_21 rfl rfl ?_
    obtain ⟨r4, s5, hc6, h⟩ := bnd_e h
    refine r_callV0 (As := [vi p0]) (rest := []) B rfl rfl EX.same (c_X5_four B.ge hS hc6) (cw_X5_four rfl rfl) (fun z => RV.of 5 ((fun z => by rw [(hS _ z).1 0 (by decide)]; rfl) z) rfl rfl qs64) q1848 q1850 rfl dX5_feed_22 ?_
    refine r_aload_n (j := 0) B dX5_feed_25 rfl rfl ?_
    refine r_iload_n (j := 2) B dX5_feed_26 rfl rfl ?_
    obtain ⟨r7, s8, hc9, h⟩ := bnd_e h
    refine r_callV0 (As := [vi p1]) (rest := []) B rfl rfl EX.same (c_X5_four B.ge hS hc9) (cw_X5_four rfl rfl) (fun z => RV.of 5 ((fun z => by rw [(hS _ z).1 0 (by decide)]; rfl) z) rfl rfl qs64) q1848 q1850 rfl dX5_feed_27 ?_
    refine r_aload_n (j := 0) B dX5_feed_30 rfl rfl ?_
    refine r_iload_n (j := 3) B dX5_feed_31 rfl rfl ?_
    obtain ⟨r10, s11, hc12, h⟩ := bnd_e h
    refine r_callV0 (As := [vi p2]) (rest := []) B rfl rfl EX.same (c_X5_four B.ge hS hc12) (cw_X5_four rfl rfl) (fun z => RV.of 5 ((fun z => by rw [(hS _ z).1 0 (by decide)]; rfl) z) rfl rfl qs64) q1848 q1850 rfl dX5_feed_32 ?_
    refine r_aload_n (j := 0) B dX5_feed_35 rfl rfl ?_
    refine r_iload (j := 4) B dX5_feed_36 rfl ?_
    obtain ⟨r13, s14, hc15, h⟩ := bnd_e h
    refine r_callV0 (As := [vi p3]) (rest := []) B rfl rfl EX.same (c_X5_four B.ge hS hc15) (cw_X5_four rfl rfl) (fun z => RV.of 5 ((fun z => by rw [(hS _ z).1 0 (by decide)]; rfl) z) rfl rfl qs64) q1848 q1850 rfl dX5_feed_38 ?_
    refine r_aload_n (j := 0) B dX5_feed_41 rfl rfl ?_
    refine r_iload (j := 5) B dX5_feed_42 rfl ?_
    obtain ⟨r16, s17, hc18, h⟩ := bnd_e h
    refine r_callV0 (As := [vi p4]) (rest := []) B rfl rfl EX.same (c_X5_four B.ge hS hc18) (cw_X5_four rfl rfl) (fun z => RV.of 5 ((fun z => by rw [(hS _ z).1 0 (by decide)]; rfl) z) rfl rfl qs64) q1848 q1850 rfl dX5_feed_44 ?_
    refine r_aload_n (j := 0) B dX5_feed_47 rfl rfl ?_
    refine g5 (k := 14) B (vi (si s17 0 14)) rfl (fun z => by rw [(hS _ z).1 0 (by decide)]; rfl) rfl q1531 rfl (fun _ => rfl) dX5_feed_48 ?_
    exact r_iret B dX5_feed_51 h
  · have h := of cn3 h
    refine r_iconst (v := -1) B dX5_feed_18 (by decide) ?_
    exact r_iret B dX5_feed_19 h
set_option maxHeartbeats 4000000 in
theorem cw_X5_feed {X : CX} {fr lo : Nat} (h1 : Nat.ble (1 + 1) fr = true) (h2 : Nat.ble (25 + 22) lo = true) : CW X fr lo yX5_feed cX5_feed 6 (some .int) 1 22 5 := ⟨q1847, q136, ⟨by decide +kernel, by decide +kernel, by decide +kernel⟩, Nat.le_of_ble_eq_true h1, Nat.le_of_ble_eq_true h2⟩

set_option maxHeartbeats 4000000 in
noncomputable def F_X5_end (s : St) (p0 : Int32) : Option (Int32 × St) := nam (setI s 0 0 (0 : Int32)) fun s1 => if p0 < 0 then (some ((-1 : Int32), s1)) else (if p0 ≤ (si s1 0 14) then (nam (setI s1 0 14 p0) fun s5 => some (p0, s5)) else (some ((-1 : Int32), s1)))
set_option maxHeartbeats 4000000 in
theorem c_X5_end {l : Launch} {E : EV} (hE : GE E) (hS : ∀ σ, eSk E σ → SkM σ) {s s' : St} {r : Int32} {p0 : Int32} (h : F_X5_end  s p0 = some (r, s')) : CT l E yX5_end cX5_end 2 (some .int) 0 0 [vr (some 0), vi p0] s (some (vi r)) s' := by
  refine CT.start hE (by decide) rfl [(0, vr (some 0)), (1, vi p0)] rfl (fun X hX B => ?_)
  skip
  have B : FX X E cX5_end 2 (some .int) "RoseThrowModel" "end" (sn s) (ss s) 0 0 := B
  unfold F_X5_end at h
  refine r_aload_n (j := 0) B dX5_end_0 rfl rfl ?_
  refine r_iconst (v := 0) B dX5_end_1 (by decide) ?_
  obtain ⟨s1, e2, h⟩ := nam_e h
  refine pI5 (k := 0) B e2 rfl (fun z => by rw [(hS _ z).1 0 (by decide)]; rfl) rfl q1517 rfl rfl (fun _ _ _ => rfl) rfl dX5_end_2 ?_
  refine r_iload_n (j := 1) B dX5_end_5 rfl rfl ?_
  refine r_if_lt (tgt := 17) B dX5_end_6 (by decide) (fun cn3 => ?_) (fun cn3 => ?_)
  · have h := ot cn3 h
    refine r_iconst (v := -1) B dX5_end_17 (by decide) ?_
    exact r_iret B dX5_end_18 h
  · have h := of cn3 h
    refine r_iload_n (j := 1) B dX5_end_9 rfl rfl ?_
    refine r_aload_n (j := 0) B dX5_end_10 rfl rfl ?_
    refine g5 (k := 14) B (vi (si s1 0 14)) rfl (fun z => by rw [(hS _ z).1 0 (by decide)]; rfl) rfl q1531 rfl (fun _ => rfl) dX5_end_11 ?_
    refine r_ic_le (tgt := 19) B dX5_end_14 (by decide) (fun cn4 => ?_) (fun cn4 => ?_)
    · have h := ot cn4 h
      refine r_aload_n (j := 0) B dX5_end_19 rfl rfl ?_
      refine r_iload_n (j := 1) B dX5_end_20 rfl rfl ?_
      obtain ⟨s5, e6, h⟩ := nam_e h
      refine pI5 (k := 14) B e6 rfl (fun z => by rw [(hS _ z).1 0 (by decide)]; rfl) rfl q1531 rfl rfl (fun _ _ _ => rfl) rfl dX5_end_21 ?_
      refine r_iload_n (j := 1) B dX5_end_24 rfl rfl ?_
      exact r_iret B dX5_end_25 h
    · have h := of cn4 h
      refine r_iconst (v := -1) B dX5_end_17 (by decide) ?_
      exact r_iret B dX5_end_18 h
set_option maxHeartbeats 4000000 in
theorem cw_X5_end {X : CX} {fr lo : Nat} (h1 : Nat.ble (0 + 1) fr = true) (h2 : Nat.ble (21 + 0) lo = true) : CW X fr lo yX5_end cX5_end 2 (some .int) 0 0 1 := ⟨q1855, q136, ⟨by decide +kernel, by decide +kernel, by decide +kernel⟩, Nat.le_of_ble_eq_true h1, Nat.le_of_ble_eq_true h2⟩

set_option maxHeartbeats 4000000 in
noncomputable def F_X5_fault (s : St)  : Option (Int32 × St) := nam (setI s 0 0 (0 : Int32)) fun s1 => some ((si s1 0 19), s1)
set_option maxHeartbeats 4000000 in
theorem c_X5_fault {l : Launch} {E : EV} (hE : GE E) (hS : ∀ σ, eSk E σ → SkM σ) {s s' : St} {r : Int32}  (h : F_X5_fault  s  = some (r, s')) : CT l E yX5_fault cX5_fault 1 (some .int) 0 0 [vr (some 0)] s (some (vi r)) s' := by
  refine CT.start hE (by decide) rfl [(0, vr (some 0))] rfl (fun X hX B => ?_)
  skip
  have B : FX X E cX5_fault 1 (some .int) "RoseThrowModel" "fault" (sn s) (ss s) 0 0 := B
  unfold F_X5_fault at h
  refine r_aload_n (j := 0) B dX5_fault_0 rfl rfl ?_
  refine r_iconst (v := 0) B dX5_fault_1 (by decide) ?_
  obtain ⟨s1, e2, h⟩ := nam_e h
  refine pI5 (k := 0) B e2 rfl (fun z => by rw [(hS _ z).1 0 (by decide)]; rfl) rfl q1517 rfl rfl (fun _ _ _ => rfl) rfl dX5_fault_2 ?_
  refine r_aload_n (j := 0) B dX5_fault_5 rfl rfl ?_
  refine g5 (k := 19) B (vi (si s1 0 19)) rfl (fun z => by rw [(hS _ z).1 0 (by decide)]; rfl) rfl q1536 rfl (fun _ => rfl) dX5_fault_6 ?_
  exact r_iret B dX5_fault_9 h
set_option maxHeartbeats 4000000 in
theorem cw_X5_fault {X : CX} {fr lo : Nat} (h1 : Nat.ble (0 + 1) fr = true) (h2 : Nat.ble (20 + 0) lo = true) : CW X fr lo yX5_fault cX5_fault 1 (some .int) 0 0 0 := ⟨q1859, q136, ⟨by decide +kernel, by decide +kernel, by decide +kernel⟩, Nat.le_of_ble_eq_true h1, Nat.le_of_ble_eq_true h2⟩

set_option maxHeartbeats 4000000 in
noncomputable def F_X5_isSmall (s : St) (p0 : Int32) : Option (Int32 × St) := if p0 < (97 : Int32) then (some ((0 : Int32), s)) else (if (122 : Int32) < p0 then (some ((0 : Int32), s)) else (some ((1 : Int32), s)))
set_option maxHeartbeats 4000000 in
theorem c_X5_isSmall {l : Launch} {E : EV} (hE : GE E) (hS : ∀ σ, eSk E σ → SkM σ) {s s' : St} {r : Int32} {p0 : Int32} (h : F_X5_isSmall  s p0 = some (r, s')) : CT l E yX5_isSmall cX5_isSmall 1 (some .boolean) 0 0 [vi p0] s (some (vi r)) s' := by
  refine CT.start hE (by decide) rfl [(0, vi p0)] rfl (fun X hX B => ?_)
  skip
  have B : FX X E cX5_isSmall 1 (some .boolean) "RoseThrowModel" "isSmall" (sn s) (ss s) 0 0 := B
  unfold F_X5_isSmall at h
  refine r_iload_n (j := 0) B dX5_isSmall_0 rfl rfl ?_
  refine r_bipush (v := 97) B dX5_isSmall_1 (by decide) ?_
  refine r_ic_lt (tgt := 16) B dX5_isSmall_3 (by decide) (fun cn1 => ?_) (fun cn1 => ?_)
  · have h := ot cn1 h
    refine r_iconst (v := 0) B dX5_isSmall_16 (by decide) ?_
    exact r_zret B dX5_isSmall_17 (by decide) h
  · have h := of cn1 h
    refine r_iload_n (j := 0) B dX5_isSmall_6 rfl rfl ?_
    refine r_bipush (v := 122) B dX5_isSmall_7 (by decide) ?_
    refine r_ic_gt (tgt := 16) B dX5_isSmall_9 (by decide) (fun cn2 => ?_) (fun cn2 => ?_)
    · have h := ot cn2 h
      refine r_iconst (v := 0) B dX5_isSmall_16 (by decide) ?_
      exact r_zret B dX5_isSmall_17 (by decide) h
    · have h := of cn2 h
      refine r_iconst (v := 1) B dX5_isSmall_12 (by decide) ?_
      refine r_goto (tgt := 17) B dX5_isSmall_13 (by decide) ?_
      exact r_zret B dX5_isSmall_17 (by decide) h
set_option maxHeartbeats 4000000 in
theorem cw_X5_isSmall {X : CX} {fr lo : Nat} (h1 : Nat.ble (0 + 1) fr = true) (h2 : Nat.ble (20 + 0) lo = true) : CW X fr lo yX5_isSmall cX5_isSmall 1 (some .boolean) 0 0 1 := ⟨q1878, q136, ⟨by decide +kernel, by decide +kernel, by decide +kernel⟩, Nat.le_of_ble_eq_true h1, Nat.le_of_ble_eq_true h2⟩

set_option maxHeartbeats 4000000 in
noncomputable def F_X5_isDigit (s : St) (p0 : Int32) : Option (Int32 × St) := if p0 < (48 : Int32) then (some ((0 : Int32), s)) else (if (57 : Int32) < p0 then (some ((0 : Int32), s)) else (some ((1 : Int32), s)))
set_option maxHeartbeats 4000000 in
theorem c_X5_isDigit {l : Launch} {E : EV} (hE : GE E) (hS : ∀ σ, eSk E σ → SkM σ) {s s' : St} {r : Int32} {p0 : Int32} (h : F_X5_isDigit  s p0 = some (r, s')) : CT l E yX5_isDigit cX5_isDigit 1 (some .boolean) 0 0 [vi p0] s (some (vi r)) s' := by
  refine CT.start hE (by decide) rfl [(0, vi p0)] rfl (fun X hX B => ?_)
  skip
  have B : FX X E cX5_isDigit 1 (some .boolean) "RoseThrowModel" "isDigit" (sn s) (ss s) 0 0 := B
  unfold F_X5_isDigit at h
  refine r_iload_n (j := 0) B dX5_isDigit_0 rfl rfl ?_
  refine r_bipush (v := 48) B dX5_isDigit_1 (by decide) ?_
  refine r_ic_lt (tgt := 16) B dX5_isDigit_3 (by decide) (fun cn1 => ?_) (fun cn1 => ?_)
  · have h := ot cn1 h
    refine r_iconst (v := 0) B dX5_isDigit_16 (by decide) ?_
    exact r_zret B dX5_isDigit_17 (by decide) h
  · have h := of cn1 h
    refine r_iload_n (j := 0) B dX5_isDigit_6 rfl rfl ?_
    refine r_bipush (v := 57) B dX5_isDigit_7 (by decide) ?_
    refine r_ic_gt (tgt := 16) B dX5_isDigit_9 (by decide) (fun cn2 => ?_) (fun cn2 => ?_)
    · have h := ot cn2 h
      refine r_iconst (v := 0) B dX5_isDigit_16 (by decide) ?_
      exact r_zret B dX5_isDigit_17 (by decide) h
    · have h := of cn2 h
      refine r_iconst (v := 1) B dX5_isDigit_12 (by decide) ?_
      refine r_goto (tgt := 17) B dX5_isDigit_13 (by decide) ?_
      exact r_zret B dX5_isDigit_17 (by decide) h
set_option maxHeartbeats 4000000 in
theorem cw_X5_isDigit {X : CX} {fr lo : Nat} (h1 : Nat.ble (0 + 1) fr = true) (h2 : Nat.ble (20 + 0) lo = true) : CW X fr lo yX5_isDigit cX5_isDigit 1 (some .boolean) 0 0 1 := ⟨q1881, q136, ⟨by decide +kernel, by decide +kernel, by decide +kernel⟩, Nat.le_of_ble_eq_true h1, Nat.le_of_ble_eq_true h2⟩

set_option maxHeartbeats 4000000 in
noncomputable def F_X5_next_319 (k243 : St → Option (Unit × St)) (s : St) (z0 : Int64) : Option (Unit × St) := nam (setL s 0 18 z0) fun s1 => nam (setI s1 0 16 ((si s1 0 16) + (1 : Int32))) fun s3 => k243 s3
set_option maxHeartbeats 4000000 in
theorem w_X5_next_319 {X : CX} {E : EV} {a0 s' : St} {r : Unit} (B : FX X E cX5_next 1 none "RoseThrowModel" "next" (sn a0) (ss a0) 1 20) (hS : ∀ σ, eSk E σ → SkM σ) (k243 : St → Option (Unit × St)) (hk243 : ∀ (s : St) , k243 s  = some (r, s') → J X E (sn a0) (ss a0) 1 (QR X E a0 none s') s 243 [(0, vr (some 0))] []) (s : St) (z0 : Int64) (h : F_X5_next_319  k243 s z0 = some (r, s')) : J X E (sn a0) (ss a0) 1 (QR X E a0 none s') s 319 [(0, vr (some 0))] [vl z0, vr (some 0)] := by
  unfold F_X5_next_319 at h
  obtain ⟨s1, e2, h⟩ := nam_e h
  refine pL5 (k := 18) B e2 rfl (fun z => by rw [(hS _ z).1 0 (by decide)]; rfl) rfl q1535 rfl rfl rfl dX5_next_319 ?_
  refine r_aload_n (j := 0) B dX5_next_322 rfl rfl ?_
  refine r_dup B dX5_next_323 rfl ?_
  refine g5 (k := 16) B (vi (si s1 0 16)) rfl (fun z => by rw [(hS _ z).1 0 (by decide)]; rfl) rfl q1533 rfl (fun _ => rfl) dX5_next_324 ?_
  refine r_iconst (v := 1) B dX5_next_327 (by decide) ?_
  refine r_iadd B dX5_next_328 ?_
  obtain ⟨s3, e4, h⟩ := nam_e h
  refine pI5 (k := 16) B e4 rfl (fun z => by rw [(hS _ z).1 0 (by decide)]; rfl) rfl q1533 rfl rfl (fun _ _ _ => rfl) rfl dX5_next_329 ?_
  refine r_goto (tgt := 243) B dX5_next_332 (by decide) ?_
  exact hk243 s3 h
set_option maxHeartbeats 4000000 in
noncomputable def F_X5_next_243 : Nat → St → Option (Unit × St)
  | 0 => fun _ => none
  | n + 1 => fun s  => if (si s 0 17) = (2 : Int32) then (if (si s 0 14) ≤ (si s 0 16) then (some ((), s)) else (gd (inb (si s 0 16) 400) <| bnd (F_X5_isDigit s (si s 10 (si s 0 16).toNatClampNeg)) fun r4 s5 => if r4 = 0 then (some ((), s5)) else (if (sl s5 0 18) ≤ (1000000 : Int64) then (gd (inb (si s5 0 16) 400) <| F_X5_next_319 (F_X5_next_243  n) s5 ((((sl s5 0 18) * (10 : Int64)) + (((si s5 10 (si s5 0 16).toNatClampNeg)).toInt64)) - (48 : Int64))) else (F_X5_next_319 (F_X5_next_243  n) s5 (sl s5 0 18))))) else (some ((), s))
set_option maxHeartbeats 4000000 in
theorem w_X5_next_243 {X : CX} {E : EV} {a0 s' : St} {r : Unit} (B : FX X E cX5_next 1 none "RoseThrowModel" "next" (sn a0) (ss a0) 1 20) (hS : ∀ σ, eSk E σ → SkM σ) : ∀ (n : Nat) (s : St) , F_X5_next_243   n s  = some (r, s') → J X E (sn a0) (ss a0) 1 (QR X E a0 none s') s 243 [(0, vr (some 0))] [] := by
  intro n
  induction n with
  | zero => intro s  h; exact absurd (show (none : Option (Unit × St)) = _ from h) (by simp)
  | succ n ih =>
    intro s  h
    rw [F_X5_next_243] at h
    refine r_aload_n (j := 0) B dX5_next_243 rfl rfl ?_
    refine g5 (k := 17) B (vi (si s 0 17)) rfl (fun z => by rw [(hS _ z).1 0 (by decide)]; rfl) rfl q1534 rfl (fun _ => rfl) dX5_next_244 ?_
    refine r_iconst (v := 2) B dX5_next_247 (by decide) ?_
    refine r_ic_ne (tgt := 335) B dX5_next_248 (by decide) (fun cn1 => ?_) (fun cn1 => ?_)
    · have h := of cn1 h
      exact r_vret B dX5_next_335 h
    · have h := ot cn1 h
      refine r_aload_n (j := 0) B dX5_next_251 rfl rfl ?_
      refine g5 (k := 16) B (vi (si s 0 16)) rfl (fun z => by rw [(hS _ z).1 0 (by decide)]; rfl) rfl q1533 rfl (fun _ => rfl) dX5_next_252 ?_
      refine r_aload_n (j := 0) B dX5_next_255 rfl rfl ?_
      refine g5 (k := 14) B (vi (si s 0 14)) rfl (fun z => by rw [(hS _ z).1 0 (by decide)]; rfl) rfl q1531 rfl (fun _ => rfl) dX5_next_256 ?_
      refine r_ic_ge (tgt := 335) B dX5_next_259 (by decide) (fun cn2 => ?_) (fun cn2 => ?_)
      · have h := ot cn2 h
        exact r_vret B dX5_next_335 h
      · have h := of cn2 h
        refine r_aload_n (j := 0) B dX5_next_262 rfl rfl ?_
        refine g5 (k := 13) B (vr (some 10)) rfl (fun z => by rw [(hS _ z).1 0 (by decide)]; rfl) rfl q1530 rfl (fun z => by rw [(hS _ z).2 _ (List.mem_of_getElem? (i := 9) rfl)]; rfl) dX5_next_263 ?_
        refine r_aload_n (j := 0) B dX5_next_266 rfl rfl ?_
        refine g5 (k := 16) B (vi (si s 0 16)) rfl (fun z => by rw [(hS _ z).1 0 (by decide)]; rfl) rfl q1533 rfl (fun _ => rfl) dX5_next_267 ?_
        obtain ⟨hg3, h⟩ := gd_e h
        refine r_iald B rfl (fun z => (hS _ z).1 10 (by decide)) hg3 dX5_next_270 ?_
        obtain ⟨r4, s5, hc6, h⟩ := bnd_e h
        refine r_callSv (As := [vi (si s 10 (si s 0 16).toNatClampNeg)]) (rest := []) B rfl EX.same (c_X5_isDigit B.ge hS hc6) (cw_X5_isDigit rfl rfl) q1879 q1880 rfl dX5_next_271 ?_
        refine r_if_eq (tgt := 335) B dX5_next_274 (by decide) (fun cn7 => ?_) (fun cn7 => ?_)
        · have h := ot cn7 h
          exact r_vret B dX5_next_335 h
        · have h := of cn7 h
          refine r_aload_n (j := 0) B dX5_next_277 rfl rfl ?_
          refine r_aload_n (j := 0) B dX5_next_278 rfl rfl ?_
          refine g5 (k := 18) B (vl (sl s5 0 18)) rfl (fun z => by rw [(hS _ z).1 0 (by decide)]; rfl) rfl q1535 rfl (fun _ => rfl) dX5_next_279 ?_
          refine r_ldc2 B dX5_next_282 q1884 ?_
          refine r_lcmp B dX5_next_285 ?_
          refine r_if_le (tgt := 296) B dX5_next_286 (by decide) (fun cn8 => ?_) (fun cn8 => ?_)
          · have h := ot (lc_le.mp cn8) h
            refine r_aload_n (j := 0) B dX5_next_296 rfl rfl ?_
            refine g5 (k := 18) B (vl (sl s5 0 18)) rfl (fun z => by rw [(hS _ z).1 0 (by decide)]; rfl) rfl q1535 rfl (fun _ => rfl) dX5_next_297 ?_
            refine r_ldc2 B dX5_next_300 q1885 ?_
            refine r_lmul B dX5_next_303 ?_
            refine r_aload_n (j := 0) B dX5_next_304 rfl rfl ?_
            refine g5 (k := 13) B (vr (some 10)) rfl (fun z => by rw [(hS _ z).1 0 (by decide)]; rfl) rfl q1530 rfl (fun z => by rw [(hS _ z).2 _ (List.mem_of_getElem? (i := 9) rfl)]; rfl) dX5_next_305 ?_
            refine r_aload_n (j := 0) B dX5_next_308 rfl rfl ?_
            refine g5 (k := 16) B (vi (si s5 0 16)) rfl (fun z => by rw [(hS _ z).1 0 (by decide)]; rfl) rfl q1533 rfl (fun _ => rfl) dX5_next_309 ?_
            obtain ⟨hg9, h⟩ := gd_e h
            refine r_iald B rfl (fun z => (hS _ z).1 10 (by decide)) hg9 dX5_next_312 ?_
            refine r_i2l B dX5_next_313 ?_
            refine r_ladd B dX5_next_314 ?_
            refine r_ldc2 B dX5_next_315 q1886 ?_
            refine r_lsub B dX5_next_318 ?_
            exact w_X5_next_319 B hS (F_X5_next_243  n) ih s5 ((((sl s5 0 18) * (10 : Int64)) + (((si s5 10 (si s5 0 16).toNatClampNeg)).toInt64)) - (48 : Int64)) h
          · have h := of (fun z => cn8 (lc_le.mpr z)) h
            refine r_aload_n (j := 0) B dX5_next_289 rfl rfl ?_
            refine g5 (k := 18) B (vl (sl s5 0 18)) rfl (fun z => by rw [(hS _ z).1 0 (by decide)]; rfl) rfl q1535 rfl (fun _ => rfl) dX5_next_290 ?_
            refine r_goto (tgt := 319) B dX5_next_293 (by decide) ?_
            exact w_X5_next_319 B hS (F_X5_next_243  n) ih s5 (sl s5 0 18) h
set_option maxHeartbeats 4000000 in
noncomputable def F_X5_next_227 (k149 : St → Option (Unit × St)) (s : St) (z0 : Int64) : Option (Unit × St) := nam (setL s 0 18 z0) fun s1 => nam (setI s1 0 16 ((si s1 0 16) + (1 : Int32))) fun s3 => k149 s3
set_option maxHeartbeats 4000000 in
theorem w_X5_next_227 {X : CX} {E : EV} {a0 s' : St} {r : Unit} (B : FX X E cX5_next 1 none "RoseThrowModel" "next" (sn a0) (ss a0) 1 20) (hS : ∀ σ, eSk E σ → SkM σ) (k149 : St → Option (Unit × St)) (hk149 : ∀ (s : St) , k149 s  = some (r, s') → J X E (sn a0) (ss a0) 1 (QR X E a0 none s') s 149 [(0, vr (some 0))] []) (s : St) (z0 : Int64) (h : F_X5_next_227  k149 s z0 = some (r, s')) : J X E (sn a0) (ss a0) 1 (QR X E a0 none s') s 227 [(0, vr (some 0))] [vl z0, vr (some 0)] := by
  unfold F_X5_next_227 at h
  obtain ⟨s1, e2, h⟩ := nam_e h
  refine pL5 (k := 18) B e2 rfl (fun z => by rw [(hS _ z).1 0 (by decide)]; rfl) rfl q1535 rfl rfl rfl dX5_next_227 ?_
  refine r_aload_n (j := 0) B dX5_next_230 rfl rfl ?_
  refine r_dup B dX5_next_231 rfl ?_
  refine g5 (k := 16) B (vi (si s1 0 16)) rfl (fun z => by rw [(hS _ z).1 0 (by decide)]; rfl) rfl q1533 rfl (fun _ => rfl) dX5_next_232 ?_
  refine r_iconst (v := 1) B dX5_next_235 (by decide) ?_
  refine r_iadd B dX5_next_236 ?_
  obtain ⟨s3, e4, h⟩ := nam_e h
  refine pI5 (k := 16) B e4 rfl (fun z => by rw [(hS _ z).1 0 (by decide)]; rfl) rfl q1533 rfl rfl (fun _ _ _ => rfl) rfl dX5_next_237 ?_
  refine r_goto (tgt := 149) B dX5_next_240 (by decide) ?_
  exact hk149 s3 h
set_option maxHeartbeats 4000000 in
noncomputable def F_X5_next_149 : Nat → St → Option (Unit × St)
  | 0 => fun _ => none
  | n + 1 => fun s  => if (si s 0 17) = (1 : Int32) then (if (si s 0 14) ≤ (si s 0 16) then (F_X5_next_243 FU s) else (gd (inb (si s 0 16) 400) <| bnd (F_X5_isSmall s (si s 10 (si s 0 16).toNatClampNeg)) fun r4 s5 => if r4 = 0 then (F_X5_next_243 FU s5) else (if (10 : Int32) ≤ ((si s5 0 16) - (si s5 0 15)) then (F_X5_next_227 (F_X5_next_149  n) s5 (-1 : Int64)) else (gd (inb (si s5 0 16) 400) <| F_X5_next_227 (F_X5_next_149  n) s5 ((((sl s5 0 18) * (32 : Int64)) + (((si s5 10 (si s5 0 16).toNatClampNeg)).toInt64)) - (96 : Int64)))))) else (F_X5_next_243 FU s)
set_option maxHeartbeats 4000000 in
theorem w_X5_next_149 {X : CX} {E : EV} {a0 s' : St} {r : Unit} (B : FX X E cX5_next 1 none "RoseThrowModel" "next" (sn a0) (ss a0) 1 20) (hS : ∀ σ, eSk E σ → SkM σ) : ∀ (n : Nat) (s : St) , F_X5_next_149   n s  = some (r, s') → J X E (sn a0) (ss a0) 1 (QR X E a0 none s') s 149 [(0, vr (some 0))] [] := by
  intro n
  induction n with
  | zero => intro s  h; exact absurd (show (none : Option (Unit × St)) = _ from h) (by simp)
  | succ n ih =>
    intro s  h
    rw [F_X5_next_149] at h
    refine r_aload_n (j := 0) B dX5_next_149 rfl rfl ?_
    refine g5 (k := 17) B (vi (si s 0 17)) rfl (fun z => by rw [(hS _ z).1 0 (by decide)]; rfl) rfl q1534 rfl (fun _ => rfl) dX5_next_150 ?_
    refine r_iconst (v := 1) B dX5_next_153 (by decide) ?_
    refine r_ic_ne (tgt := 243) B dX5_next_154 (by decide) (fun cn1 => ?_) (fun cn1 => ?_)
    · have h := of cn1 h
      exact w_X5_next_243 B hS FU s h
    · have h := ot cn1 h
      refine r_aload_n (j := 0) B dX5_next_157 rfl rfl ?_
      refine g5 (k := 16) B (vi (si s 0 16)) rfl (fun z => by rw [(hS _ z).1 0 (by decide)]; rfl) rfl q1533 rfl (fun _ => rfl) dX5_next_158 ?_
      refine r_aload_n (j := 0) B dX5_next_161 rfl rfl ?_
      refine g5 (k := 14) B (vi (si s 0 14)) rfl (fun z => by rw [(hS _ z).1 0 (by decide)]; rfl) rfl q1531 rfl (fun _ => rfl) dX5_next_162 ?_
      refine r_ic_ge (tgt := 243) B dX5_next_165 (by decide) (fun cn2 => ?_) (fun cn2 => ?_)
      · have h := ot cn2 h
        exact w_X5_next_243 B hS FU s h
      · have h := of cn2 h
        refine r_aload_n (j := 0) B dX5_next_168 rfl rfl ?_
        refine g5 (k := 13) B (vr (some 10)) rfl (fun z => by rw [(hS _ z).1 0 (by decide)]; rfl) rfl q1530 rfl (fun z => by rw [(hS _ z).2 _ (List.mem_of_getElem? (i := 9) rfl)]; rfl) dX5_next_169 ?_
        refine r_aload_n (j := 0) B dX5_next_172 rfl rfl ?_
        refine g5 (k := 16) B (vi (si s 0 16)) rfl (fun z => by rw [(hS _ z).1 0 (by decide)]; rfl) rfl q1533 rfl (fun _ => rfl) dX5_next_173 ?_
        obtain ⟨hg3, h⟩ := gd_e h
        refine r_iald B rfl (fun z => (hS _ z).1 10 (by decide)) hg3 dX5_next_176 ?_
        obtain ⟨r4, s5, hc6, h⟩ := bnd_e h
        refine r_callSv (As := [vi (si s 10 (si s 0 16).toNatClampNeg)]) (rest := []) B rfl EX.same (c_X5_isSmall B.ge hS hc6) (cw_X5_isSmall rfl rfl) q1876 q1877 rfl dX5_next_177 ?_
        refine r_if_eq (tgt := 243) B dX5_next_180 (by decide) (fun cn7 => ?_) (fun cn7 => ?_)
        · have h := ot cn7 h
          exact w_X5_next_243 B hS FU s5 h
        · have h := of cn7 h
          refine r_aload_n (j := 0) B dX5_next_183 rfl rfl ?_
          refine r_aload_n (j := 0) B dX5_next_184 rfl rfl ?_
          refine g5 (k := 16) B (vi (si s5 0 16)) rfl (fun z => by rw [(hS _ z).1 0 (by decide)]; rfl) rfl q1533 rfl (fun _ => rfl) dX5_next_185 ?_
          refine r_aload_n (j := 0) B dX5_next_188 rfl rfl ?_
          refine g5 (k := 15) B (vi (si s5 0 15)) rfl (fun z => by rw [(hS _ z).1 0 (by decide)]; rfl) rfl q1532 rfl (fun _ => rfl) dX5_next_189 ?_
          refine r_isub B dX5_next_192 ?_
          refine r_bipush (v := 10) B dX5_next_193 (by decide) ?_
          refine r_ic_ge (tgt := 224) B dX5_next_195 (by decide) (fun cn8 => ?_) (fun cn8 => ?_)
          · have h := ot cn8 h
            refine r_ldc2 B dX5_next_224 q1782 ?_
            exact w_X5_next_227 B hS (F_X5_next_149  n) ih s5 (-1 : Int64) h
          · have h := of cn8 h
            refine r_aload_n (j := 0) B dX5_next_198 rfl rfl ?_
            refine g5 (k := 18) B (vl (sl s5 0 18)) rfl (fun z => by rw [(hS _ z).1 0 (by decide)]; rfl) rfl q1535 rfl (fun _ => rfl) dX5_next_199 ?_
            refine r_ldc2 B dX5_next_202 q1882 ?_
            refine r_lmul B dX5_next_205 ?_
            refine r_aload_n (j := 0) B dX5_next_206 rfl rfl ?_
            refine g5 (k := 13) B (vr (some 10)) rfl (fun z => by rw [(hS _ z).1 0 (by decide)]; rfl) rfl q1530 rfl (fun z => by rw [(hS _ z).2 _ (List.mem_of_getElem? (i := 9) rfl)]; rfl) dX5_next_207 ?_
            refine r_aload_n (j := 0) B dX5_next_210 rfl rfl ?_
            refine g5 (k := 16) B (vi (si s5 0 16)) rfl (fun z => by rw [(hS _ z).1 0 (by decide)]; rfl) rfl q1533 rfl (fun _ => rfl) dX5_next_211 ?_
            obtain ⟨hg9, h⟩ := gd_e h
            refine r_iald B rfl (fun z => (hS _ z).1 10 (by decide)) hg9 dX5_next_214 ?_
            refine r_i2l B dX5_next_215 ?_
            refine r_ladd B dX5_next_216 ?_
            refine r_ldc2 B dX5_next_217 q1883 ?_
            refine r_lsub B dX5_next_220 ?_
            refine r_goto (tgt := 227) B dX5_next_221 (by decide) ?_
            exact w_X5_next_227 B hS (F_X5_next_149  n) ih s5 ((((sl s5 0 18) * (32 : Int64)) + (((si s5 10 (si s5 0 16).toNatClampNeg)).toInt64)) - (96 : Int64)) h
set_option maxHeartbeats 4000000 in
noncomputable def F_X5_next_114 (s : St) (z0 : Int32) : Option (Unit × St) := nam (setI s 0 17 z0) fun s1 => if (si s1 0 17) = (3 : Int32) then (gd (inb (si s1 0 15) 400) <| nam (setL s1 0 18 (((si s1 10 (si s1 0 15).toNatClampNeg)).toInt64)) fun s5 => nam (setI s5 0 16 ((si s5 0 16) + (1 : Int32))) fun s7 => F_X5_next_149 FU s7) else (F_X5_next_149 FU s1)
set_option maxHeartbeats 4000000 in
theorem w_X5_next_114 {X : CX} {E : EV} {a0 s' : St} {r : Unit} (B : FX X E cX5_next 1 none "RoseThrowModel" "next" (sn a0) (ss a0) 1 20) (hS : ∀ σ, eSk E σ → SkM σ) (s : St) (z0 : Int32) (h : F_X5_next_114   s z0 = some (r, s')) : J X E (sn a0) (ss a0) 1 (QR X E a0 none s') s 114 [(0, vr (some 0))] [vi z0, vr (some 0)] := by
  unfold F_X5_next_114 at h
  obtain ⟨s1, e2, h⟩ := nam_e h
  refine pI5 (k := 17) B e2 rfl (fun z => by rw [(hS _ z).1 0 (by decide)]; rfl) rfl q1534 rfl rfl (fun _ _ _ => rfl) rfl dX5_next_114 ?_
  refine r_aload_n (j := 0) B dX5_next_117 rfl rfl ?_
  refine g5 (k := 17) B (vi (si s1 0 17)) rfl (fun z => by rw [(hS _ z).1 0 (by decide)]; rfl) rfl q1534 rfl (fun _ => rfl) dX5_next_118 ?_
  refine r_iconst (v := 3) B dX5_next_121 (by decide) ?_
  refine r_ic_ne (tgt := 149) B dX5_next_122 (by decide) (fun cn3 => ?_) (fun cn3 => ?_)
  · have h := of cn3 h
    exact w_X5_next_149 B hS FU s1 h
  · have h := ot cn3 h
    refine r_aload_n (j := 0) B dX5_next_125 rfl rfl ?_
    refine r_aload_n (j := 0) B dX5_next_126 rfl rfl ?_
    refine g5 (k := 13) B (vr (some 10)) rfl (fun z => by rw [(hS _ z).1 0 (by decide)]; rfl) rfl q1530 rfl (fun z => by rw [(hS _ z).2 _ (List.mem_of_getElem? (i := 9) rfl)]; rfl) dX5_next_127 ?_
    refine r_aload_n (j := 0) B dX5_next_130 rfl rfl ?_
    refine g5 (k := 15) B (vi (si s1 0 15)) rfl (fun z => by rw [(hS _ z).1 0 (by decide)]; rfl) rfl q1532 rfl (fun _ => rfl) dX5_next_131 ?_
    obtain ⟨hg4, h⟩ := gd_e h
    refine r_iald B rfl (fun z => (hS _ z).1 10 (by decide)) hg4 dX5_next_134 ?_
    refine r_i2l B dX5_next_135 ?_
    obtain ⟨s5, e6, h⟩ := nam_e h
    refine pL5 (k := 18) B e6 rfl (fun z => by rw [(hS _ z).1 0 (by decide)]; rfl) rfl q1535 rfl rfl rfl dX5_next_136 ?_
    refine r_aload_n (j := 0) B dX5_next_139 rfl rfl ?_
    refine r_dup B dX5_next_140 rfl ?_
    refine g5 (k := 16) B (vi (si s5 0 16)) rfl (fun z => by rw [(hS _ z).1 0 (by decide)]; rfl) rfl q1533 rfl (fun _ => rfl) dX5_next_141 ?_
    refine r_iconst (v := 1) B dX5_next_144 (by decide) ?_
    refine r_iadd B dX5_next_145 ?_
    obtain ⟨s7, e8, h⟩ := nam_e h
    refine pI5 (k := 16) B e8 rfl (fun z => by rw [(hS _ z).1 0 (by decide)]; rfl) rfl q1533 rfl rfl (fun _ _ _ => rfl) rfl dX5_next_146 ?_
    exact w_X5_next_149 B hS FU s7 h
set_option maxHeartbeats 4000000 in
noncomputable def F_X5_next_46 (s : St)  : Option (Unit × St) := nam (setI s 0 16 (si s 0 15)) fun s1 => nam (setL s1 0 18 (0 : Int64)) fun s3 => if (si s3 0 15) = (si s3 0 14) then (F_X5_next_114 s3 (0 : Int32)) else (gd (inb (si s3 0 15) 400) <| bnd (F_X5_isSmall s3 (si s3 10 (si s3 0 15).toNatClampNeg)) fun r7 s8 => if r7 = 0 then (gd (inb (si s8 0 15) 400) <| bnd (F_X5_isDigit s8 (si s8 10 (si s8 0 15).toNatClampNeg)) fun r12 s13 => if r12 = 0 then (F_X5_next_114 s13 (3 : Int32)) else (F_X5_next_114 s13 (2 : Int32))) else (F_X5_next_114 s8 (1 : Int32)))
set_option maxHeartbeats 4000000 in
theorem w_X5_next_46 {X : CX} {E : EV} {a0 s' : St} {r : Unit} (B : FX X E cX5_next 1 none "RoseThrowModel" "next" (sn a0) (ss a0) 1 20) (hS : ∀ σ, eSk E σ → SkM σ) (s : St)  (h : F_X5_next_46   s  = some (r, s')) : J X E (sn a0) (ss a0) 1 (QR X E a0 none s') s 46 [(0, vr (some 0))] [] := by
  unfold F_X5_next_46 at h
  refine r_aload_n (j := 0) B dX5_next_46 rfl rfl ?_
  refine r_aload_n (j := 0) B dX5_next_47 rfl rfl ?_
  refine g5 (k := 15) B (vi (si s 0 15)) rfl (fun z => by rw [(hS _ z).1 0 (by decide)]; rfl) rfl q1532 rfl (fun _ => rfl) dX5_next_48 ?_
  obtain ⟨s1, e2, h⟩ := nam_e h
  refine pI5 (k := 16) B e2 rfl (fun z => by rw [(hS _ z).1 0 (by decide)]; rfl) rfl q1533 rfl rfl (fun _ _ _ => rfl) rfl dX5_next_51 ?_
  refine r_aload_n (j := 0) B dX5_next_54 rfl rfl ?_
  refine r_lconst (v := 0) B dX5_next_55 (by decide) ?_
  obtain ⟨s3, e4, h⟩ := nam_e h
  refine pL5 (k := 18) B e4 rfl (fun z => by rw [(hS _ z).1 0 (by decide)]; rfl) rfl q1535 rfl rfl rfl dX5_next_56 ?_
  refine r_aload_n (j := 0) B dX5_next_59 rfl rfl ?_
  refine r_aload_n (j := 0) B dX5_next_60 rfl rfl ?_
  refine g5 (k := 15) B (vi (si s3 0 15)) rfl (fun z => by rw [(hS _ z).1 0 (by decide)]; rfl) rfl q1532 rfl (fun _ => rfl) dX5_next_61 ?_
  refine r_aload_n (j := 0) B dX5_next_64 rfl rfl ?_
  refine g5 (k := 14) B (vi (si s3 0 14)) rfl (fun z => by rw [(hS _ z).1 0 (by decide)]; rfl) rfl q1531 rfl (fun _ => rfl) dX5_next_65 ?_
  refine r_ic_ne (tgt := 75) B dX5_next_68 (by decide) (fun cn5 => ?_) (fun cn5 => ?_)
  · have h := of cn5 h
    refine r_aload_n (j := 0) B dX5_next_75 rfl rfl ?_
    refine g5 (k := 13) B (vr (some 10)) rfl (fun z => by rw [(hS _ z).1 0 (by decide)]; rfl) rfl q1530 rfl (fun z => by rw [(hS _ z).2 _ (List.mem_of_getElem? (i := 9) rfl)]; rfl) dX5_next_76 ?_
    refine r_aload_n (j := 0) B dX5_next_79 rfl rfl ?_
    refine g5 (k := 15) B (vi (si s3 0 15)) rfl (fun z => by rw [(hS _ z).1 0 (by decide)]; rfl) rfl q1532 rfl (fun _ => rfl) dX5_next_80 ?_
    obtain ⟨hg6, h⟩ := gd_e h
    refine r_iald B rfl (fun z => (hS _ z).1 10 (by decide)) hg6 dX5_next_83 ?_
    obtain ⟨r7, s8, hc9, h⟩ := bnd_e h
    refine r_callSv (As := [vi (si s3 10 (si s3 0 15).toNatClampNeg)]) (rest := [vr (some 0)]) B rfl EX.same (c_X5_isSmall B.ge hS hc9) (cw_X5_isSmall rfl rfl) q1876 q1877 rfl dX5_next_84 ?_
    refine r_if_eq (tgt := 94) B dX5_next_87 (by decide) (fun cn10 => ?_) (fun cn10 => ?_)
    · have h := ot cn10 h
      refine r_aload_n (j := 0) B dX5_next_94 rfl rfl ?_
      refine g5 (k := 13) B (vr (some 10)) rfl (fun z => by rw [(hS _ z).1 0 (by decide)]; rfl) rfl q1530 rfl (fun z => by rw [(hS _ z).2 _ (List.mem_of_getElem? (i := 9) rfl)]; rfl) dX5_next_95 ?_
      refine r_aload_n (j := 0) B dX5_next_98 rfl rfl ?_
      refine g5 (k := 15) B (vi (si s8 0 15)) rfl (fun z => by rw [(hS _ z).1 0 (by decide)]; rfl) rfl q1532 rfl (fun _ => rfl) dX5_next_99 ?_
      obtain ⟨hg11, h⟩ := gd_e h
      refine r_iald B rfl (fun z => (hS _ z).1 10 (by decide)) hg11 dX5_next_102 ?_
      obtain ⟨r12, s13, hc14, h⟩ := bnd_e h
      refine r_callSv (As := [vi (si s8 10 (si s8 0 15).toNatClampNeg)]) (rest := [vr (some 0)]) B rfl EX.same (c_X5_isDigit B.ge hS hc14) (cw_X5_isDigit rfl rfl) q1879 q1880 rfl dX5_next_103 ?_
      refine r_if_eq (tgt := 113) B dX5_next_106 (by decide) (fun cn15 => ?_) (fun cn15 => ?_)
      · have h := ot cn15 h
        refine r_iconst (v := 3) B dX5_next_113 (by decide) ?_
        exact w_X5_next_114 B hS s13 (3 : Int32) h
      · have h := of cn15 h
        refine r_iconst (v := 2) B dX5_next_109 (by decide) ?_
        refine r_goto (tgt := 114) B dX5_next_110 (by decide) ?_
        exact w_X5_next_114 B hS s13 (2 : Int32) h
    · have h := of cn10 h
      refine r_iconst (v := 1) B dX5_next_90 (by decide) ?_
      refine r_goto (tgt := 114) B dX5_next_91 (by decide) ?_
      exact w_X5_next_114 B hS s8 (1 : Int32) h
  · have h := ot cn5 h
    refine r_iconst (v := 0) B dX5_next_71 (by decide) ?_
    refine r_goto (tgt := 114) B dX5_next_72 (by decide) ?_
    exact w_X5_next_114 B hS s3 (0 : Int32) h
set_option maxHeartbeats 4000000 in
noncomputable def F_X5_next_8 : Nat → St → Option (Unit × St)
  | 0 => fun _ => none
  | n + 1 => fun s  => if (si s 0 14) ≤ (si s 0 15) then (F_X5_next_46 s) else (gd (inb (si s 0 15) 400) <| if (si s 10 (si s 0 15).toNatClampNeg) = (32 : Int32) then (nam (setI s 0 15 ((si s 0 15) + (1 : Int32))) fun s4 => F_X5_next_8  n s4) else (F_X5_next_46 s))
set_option maxHeartbeats 4000000 in
theorem w_X5_next_8 {X : CX} {E : EV} {a0 s' : St} {r : Unit} (B : FX X E cX5_next 1 none "RoseThrowModel" "next" (sn a0) (ss a0) 1 20) (hS : ∀ σ, eSk E σ → SkM σ) : ∀ (n : Nat) (s : St) , F_X5_next_8   n s  = some (r, s') → J X E (sn a0) (ss a0) 1 (QR X E a0 none s') s 8 [(0, vr (some 0))] [] := by
  intro n
  induction n with
  | zero => intro s  h; exact absurd (show (none : Option (Unit × St)) = _ from h) (by simp)
  | succ n ih =>
    intro s  h
    rw [F_X5_next_8] at h
    refine r_aload_n (j := 0) B dX5_next_8 rfl rfl ?_
    refine g5 (k := 15) B (vi (si s 0 15)) rfl (fun z => by rw [(hS _ z).1 0 (by decide)]; rfl) rfl q1532 rfl (fun _ => rfl) dX5_next_9 ?_
    refine r_aload_n (j := 0) B dX5_next_12 rfl rfl ?_
    refine g5 (k := 14) B (vi (si s 0 14)) rfl (fun z => by rw [(hS _ z).1 0 (by decide)]; rfl) rfl q1531 rfl (fun _ => rfl) dX5_next_13 ?_
    refine r_ic_ge (tgt := 46) B dX5_next_16 (by decide) (fun cn1 => ?_) (fun cn1 => ?_)
    · have h := ot cn1 h
      exact w_X5_next_46 B hS s h
    · have h := of cn1 h
      refine r_aload_n (j := 0) B dX5_next_19 rfl rfl ?_
      refine g5 (k := 13) B (vr (some 10)) rfl (fun z => by rw [(hS _ z).1 0 (by decide)]; rfl) rfl q1530 rfl (fun z => by rw [(hS _ z).2 _ (List.mem_of_getElem? (i := 9) rfl)]; rfl) dX5_next_20 ?_
      refine r_aload_n (j := 0) B dX5_next_23 rfl rfl ?_
      refine g5 (k := 15) B (vi (si s 0 15)) rfl (fun z => by rw [(hS _ z).1 0 (by decide)]; rfl) rfl q1532 rfl (fun _ => rfl) dX5_next_24 ?_
      obtain ⟨hg2, h⟩ := gd_e h
      refine r_iald B rfl (fun z => (hS _ z).1 10 (by decide)) hg2 dX5_next_27 ?_
      refine r_bipush (v := 32) B dX5_next_28 (by decide) ?_
      refine r_ic_ne (tgt := 46) B dX5_next_30 (by decide) (fun cn3 => ?_) (fun cn3 => ?_)
      · have h := of cn3 h
        exact w_X5_next_46 B hS s h
      · have h := ot cn3 h
        refine r_aload_n (j := 0) B dX5_next_33 rfl rfl ?_
        refine r_dup B dX5_next_34 rfl ?_
        refine g5 (k := 15) B (vi (si s 0 15)) rfl (fun z => by rw [(hS _ z).1 0 (by decide)]; rfl) rfl q1532 rfl (fun _ => rfl) dX5_next_35 ?_
        refine r_iconst (v := 1) B dX5_next_38 (by decide) ?_
        refine r_iadd B dX5_next_39 ?_
        obtain ⟨s4, e5, h⟩ := nam_e h
        refine pI5 (k := 15) B e5 rfl (fun z => by rw [(hS _ z).1 0 (by decide)]; rfl) rfl q1532 rfl rfl (fun _ _ _ => rfl) rfl dX5_next_40 ?_
        refine r_goto (tgt := 8) B dX5_next_43 (by decide) ?_
        exact ih s4 h
set_option maxHeartbeats 4000000 in
noncomputable def F_X5_next (s : St)  : Option (Unit × St) := nam (setI s 0 15 (si s 0 16)) fun s1 => F_X5_next_8 FU s1
set_option maxHeartbeats 4000000 in
theorem c_X5_next {l : Launch} {E : EV} (hE : GE E) (hS : ∀ σ, eSk E σ → SkM σ) {s s' : St} {r : Unit}  (h : F_X5_next  s  = some (r, s')) : CT l E yX5_next cX5_next 1 none 1 20 [vr (some 0)] s none s' := by
  refine CT.start hE (by decide) rfl [(0, vr (some 0))] rfl (fun X hX B => ?_)
  skip
  have B : FX X E cX5_next 1 none "RoseThrowModel" "next" (sn s) (ss s) 1 20 := B
  unfold F_X5_next at h
  refine r_aload_n (j := 0) B dX5_next_0 rfl rfl ?_
  refine r_aload_n (j := 0) B dX5_next_1 rfl rfl ?_
  refine g5 (k := 16) B (vi (si s 0 16)) rfl (fun z => by rw [(hS _ z).1 0 (by decide)]; rfl) rfl q1533 rfl (fun _ => rfl) dX5_next_2 ?_
  obtain ⟨s1, e2, h⟩ := nam_e h
  refine pI5 (k := 15) B e2 rfl (fun z => by rw [(hS _ z).1 0 (by decide)]; rfl) rfl q1532 rfl rfl (fun _ _ _ => rfl) rfl dX5_next_5 ?_
  exact w_X5_next_8 B hS FU s1 h
set_option maxHeartbeats 4000000 in
theorem cw_X5_next {X : CX} {fr lo : Nat} (h1 : Nat.ble (1 + 1) fr = true) (h2 : Nat.ble (20 + 20) lo = true) : CW X fr lo yX5_next cX5_next 1 none 1 20 0 := ⟨q1875, q136, ⟨by decide +kernel, by decide +kernel, by decide +kernel⟩, Nat.le_of_ble_eq_true h1, Nat.le_of_ble_eq_true h2⟩

set_option maxHeartbeats 4000000 in
noncomputable def F_X5_begin (s : St)  : Option (Unit × St) := nam (setI s 0 16 (0 : Int32)) fun s1 => nam (setI s1 0 20 (0 : Int32)) fun s3 => nam (setI s3 0 19 (-1 : Int32)) fun s5 => bnd (F_X5_next s5) fun _ s8 => some ((), s8)
set_option maxHeartbeats 4000000 in
theorem c_X5_begin {l : Launch} {E : EV} (hE : GE E) (hS : ∀ σ, eSk E σ → SkM σ) {s s' : St} {r : Unit}  (h : F_X5_begin  s  = some (r, s')) : CT l E yX5_begin cX5_begin 1 none 2 40 [vr (some 0)] s none s' := by
  refine CT.start hE (by decide) rfl [(0, vr (some 0))] rfl (fun X hX B => ?_)
  skip
  have B : FX X E cX5_begin 1 none "RoseThrowModel" "begin" (sn s) (ss s) 2 40 := B
  unfold F_X5_begin at h
  refine r_aload_n (j := 0) B dX5_begin_0 rfl rfl ?_
  refine r_iconst (v := 0) B dX5_begin_1 (by decide) ?_
  obtain ⟨s1, e2, h⟩ := nam_e h
  refine pI5 (k := 16) B e2 rfl (fun z => by rw [(hS _ z).1 0 (by decide)]; rfl) rfl q1533 rfl rfl (fun _ _ _ => rfl) rfl dX5_begin_2 ?_
  refine r_aload_n (j := 0) B dX5_begin_5 rfl rfl ?_
  refine r_iconst (v := 0) B dX5_begin_6 (by decide) ?_
  obtain ⟨s3, e4, h⟩ := nam_e h
  refine pI5 (k := 20) B e4 rfl (fun z => by rw [(hS _ z).1 0 (by decide)]; rfl) rfl q1537 rfl rfl (fun _ _ _ => rfl) (by decide) dX5_begin_7 ?_
  refine r_aload_n (j := 0) B dX5_begin_10 rfl rfl ?_
  refine r_iconst (v := -1) B dX5_begin_11 (by decide) ?_
  obtain ⟨s5, e6, h⟩ := nam_e h
  refine pI5 (k := 19) B e6 rfl (fun z => by rw [(hS _ z).1 0 (by decide)]; rfl) rfl q1536 rfl rfl (fun _ _ _ => rfl) rfl dX5_begin_12 ?_
  refine r_aload_n (j := 0) B dX5_begin_15 rfl rfl ?_
  obtain ⟨r7, s8, hc9, h⟩ := bnd_e h
  refine r_callV0 (As := []) (rest := []) B rfl rfl EX.same (c_X5_next B.ge hS hc9) (cw_X5_next rfl rfl) (fun z => RV.of 5 ((fun z => by rw [(hS _ z).1 0 (by decide)]; rfl) z) rfl rfl qs67) q1872 q1874 rfl dX5_begin_16 ?_
  exact r_vret B dX5_begin_19 h
set_option maxHeartbeats 4000000 in
theorem cw_X5_begin {X : CX} {fr lo : Nat} (h1 : Nat.ble (2 + 1) fr = true) (h2 : Nat.ble (20 + 40) lo = true) : CW X fr lo yX5_begin cX5_begin 1 none 2 40 0 := ⟨q1871, q136, ⟨by decide +kernel, by decide +kernel, by decide +kernel⟩, Nat.le_of_ble_eq_true h1, Nat.le_of_ble_eq_true h2⟩

set_option maxHeartbeats 4000000 in
noncomputable def F_X5_beginText (s : St) (p0 : Int32) : Option (Unit × St) := gd (fits .boolean (.int p0)) <| nam (setI s 0 21 p0) fun s2 => bnd (F_X5_begin s2) fun _ s5 => nam (setI s5 0 22 (0 : Int32)) fun s7 => nam (setI s7 0 24 (0 : Int32)) fun s9 => nam (setI s9 0 27 (0 : Int32)) fun s11 => some ((), s11)
set_option maxHeartbeats 4000000 in
theorem c_X5_beginText {l : Launch} {E : EV} (hE : GE E) (hS : ∀ σ, eSk E σ → SkM σ) {s s' : St} {r : Unit} {p0 : Int32} (h : F_X5_beginText  s p0 = some (r, s')) : CT l E yX5_beginText cX5_beginText 2 none 3 60 [vr (some 0), vi p0] s none s' := by
  refine CT.start hE (by decide) rfl [(0, vr (some 0)), (1, vi p0)] rfl (fun X hX B => ?_)
  skip
  have B : FX X E cX5_beginText 2 none "RoseThrowModel" "beginText" (sn s) (ss s) 3 60 := B
  unfold F_X5_beginText at h
  refine r_aload_n (j := 0) B dX5_beginText_0 rfl rfl ?_
  refine r_iload_n (j := 1) B dX5_beginText_1 rfl rfl ?_
  obtain ⟨hg1, h⟩ := gd_e h
  obtain ⟨s2, e3, h⟩ := nam_e h
  refine pI5 (k := 21) B e3 rfl (fun z => by rw [(hS _ z).1 0 (by decide)]; rfl) rfl q1538 rfl rfl (fun _ _ _ => rfl) hg1 dX5_beginText_2 ?_
  refine r_aload_n (j := 0) B dX5_beginText_5 rfl rfl ?_
  obtain ⟨r4, s5, hc6, h⟩ := bnd_e h
  refine r_callV0 (As := []) (rest := []) B rfl rfl EX.same (c_X5_begin B.ge hS hc6) (cw_X5_begin rfl rfl) (fun z => RV.of 5 ((fun z => by rw [(hS _ z).1 0 (by decide)]; rfl) z) rfl rfl qs66) q1868 q1870 rfl dX5_beginText_6 ?_
  refine r_aload_n (j := 0) B dX5_beginText_9 rfl rfl ?_
  refine r_iconst (v := 0) B dX5_beginText_10 (by decide) ?_
  obtain ⟨s7, e8, h⟩ := nam_e h
  refine pI5 (k := 22) B e8 rfl (fun z => by rw [(hS _ z).1 0 (by decide)]; rfl) rfl q1539 rfl rfl (fun _ _ _ => rfl) rfl dX5_beginText_11 ?_
  refine r_aload_n (j := 0) B dX5_beginText_14 rfl rfl ?_
  refine r_iconst (v := 0) B dX5_beginText_15 (by decide) ?_
  obtain ⟨s9, e10, h⟩ := nam_e h
  refine pI5 (k := 24) B e10 rfl (fun z => by rw [(hS _ z).1 0 (by decide)]; rfl) rfl q1541 rfl rfl (fun _ _ _ => rfl) rfl dX5_beginText_16 ?_
  refine r_aload_n (j := 0) B dX5_beginText_19 rfl rfl ?_
  refine r_iconst (v := 0) B dX5_beginText_20 (by decide) ?_
  obtain ⟨s11, e12, h⟩ := nam_e h
  refine pI5 (k := 27) B e12 rfl (fun z => by rw [(hS _ z).1 0 (by decide)]; rfl) rfl q1544 rfl rfl (fun _ _ _ => rfl) rfl dX5_beginText_21 ?_
  exact r_vret B dX5_beginText_24 h
set_option maxHeartbeats 4000000 in
theorem cw_X5_beginText {X : CX} {fr lo : Nat} (h1 : Nat.ble (3 + 1) fr = true) (h2 : Nat.ble (21 + 60) lo = true) : CW X fr lo yX5_beginText cX5_beginText 2 none 3 60 1 := ⟨q1867, q136, ⟨by decide +kernel, by decide +kernel, by decide +kernel⟩, Nat.le_of_ble_eq_true h1, Nat.le_of_ble_eq_true h2⟩

set_option maxHeartbeats 4000000 in
noncomputable def F_X5_isWord (s : St) (p0 : Int64) : Option (Int32 × St) := if (si s 0 17) = (1 : Int32) then (if (sl s 0 18) = p0 then (some ((1 : Int32), s)) else (some ((0 : Int32), s))) else (some ((0 : Int32), s))
set_option maxHeartbeats 4000000 in
theorem c_X5_isWord {l : Launch} {E : EV} (hE : GE E) (hS : ∀ σ, eSk E σ → SkM σ) {s s' : St} {r : Int32} {p0 : Int64} (h : F_X5_isWord  s p0 = some (r, s')) : CT l E yX5_isWord cX5_isWord 3 (some .boolean) 0 0 [vr (some 0), vl p0] s (some (vi r)) s' := by
  refine CT.start hE (by decide) rfl [(0, vr (some 0)), (1, vl p0)] rfl (fun X hX B => ?_)
  skip
  have B : FX X E cX5_isWord 3 (some .boolean) "RoseThrowModel" "isWord" (sn s) (ss s) 0 0 := B
  unfold F_X5_isWord at h
  refine r_aload_n (j := 0) B dX5_isWord_0 rfl rfl ?_
  refine g5 (k := 17) B (vi (si s 0 17)) rfl (fun z => by rw [(hS _ z).1 0 (by decide)]; rfl) rfl q1534 rfl (fun _ => rfl) dX5_isWord_1 ?_
  refine r_iconst (v := 1) B dX5_isWord_4 (by decide) ?_
  refine r_ic_ne (tgt := 21) B dX5_isWord_5 (by decide) (fun cn1 => ?_) (fun cn1 => ?_)
  · have h := of cn1 h
    refine r_iconst (v := 0) B dX5_isWord_21 (by decide) ?_
    exact r_zret B dX5_isWord_22 (by decide) h
  · have h := ot cn1 h
    refine r_aload_n (j := 0) B dX5_isWord_8 rfl rfl ?_
    refine g5 (k := 18) B (vl (sl s 0 18)) rfl (fun z => by rw [(hS _ z).1 0 (by decide)]; rfl) rfl q1535 rfl (fun _ => rfl) dX5_isWord_9 ?_
    refine r_lload_n (j := 1) B dX5_isWord_12 rfl rfl ?_
    refine r_lcmp B dX5_isWord_13 ?_
    refine r_if_ne (tgt := 21) B dX5_isWord_14 (by decide) (fun cn2 => ?_) (fun cn2 => ?_)
    · have h := of (fun z => cn2 (lc_eq.mpr z)) h
      refine r_iconst (v := 0) B dX5_isWord_21 (by decide) ?_
      exact r_zret B dX5_isWord_22 (by decide) h
    · have h := ot (lc_eq.mp cn2) h
      refine r_iconst (v := 1) B dX5_isWord_17 (by decide) ?_
      refine r_goto (tgt := 22) B dX5_isWord_18 (by decide) ?_
      exact r_zret B dX5_isWord_22 (by decide) h
set_option maxHeartbeats 4000000 in
theorem cw_X5_isWord {X : CX} {fr lo : Nat} (h1 : Nat.ble (0 + 1) fr = true) (h2 : Nat.ble (22 + 0) lo = true) : CW X fr lo yX5_isWord cX5_isWord 3 (some .boolean) 0 0 1 := ⟨q1894, q136, ⟨by decide +kernel, by decide +kernel, by decide +kernel⟩, Nat.le_of_ble_eq_true h1, Nat.le_of_ble_eq_true h2⟩

set_option maxHeartbeats 4000000 in
noncomputable def F_X5_must_24 (s : St)  : Option (Unit × St) := if (si s 0 20) = 0 then (bnd (F_X5_next s) fun _ s3 => some ((), s3)) else (some ((), s))
set_option maxHeartbeats 4000000 in
theorem w_X5_must_24 {X : CX} {E : EV} {a0 s' : St} {r : Unit} (B : FX X E cX5_must 2 none "RoseThrowModel" "must" (sn a0) (ss a0) 2 40) (hS : ∀ σ, eSk E σ → SkM σ) (s : St)  (h : F_X5_must_24   s  = some (r, s')) : J X E (sn a0) (ss a0) 2 (QR X E a0 none s') s 24 [(0, vr (some 0))] [] := by
  unfold F_X5_must_24 at h
  refine r_aload_n (j := 0) B dX5_must_24 rfl rfl ?_
  refine g5 (k := 20) B (vi (si s 0 20)) rfl (fun z => by rw [(hS _ z).1 0 (by decide)]; rfl) rfl q1537 rfl (fun _ => rfl) dX5_must_25 ?_
  refine r_if_ne (tgt := 35) B dX5_must_28 (by decide) (fun cn1 => ?_) (fun cn1 => ?_)
  · have h := of cn1 h
    exact r_vret B dX5_must_35 h
  · have h := ot cn1 h
    refine r_aload_n (j := 0) B dX5_must_31 rfl rfl ?_
    obtain ⟨r2, s3, hc4, h⟩ := bnd_e h
    refine r_callV0 (As := []) (rest := []) B rfl rfl EX.same (c_X5_next B.ge hS hc4) (cw_X5_next rfl rfl) (fun z => RV.of 5 ((fun z => by rw [(hS _ z).1 0 (by decide)]; rfl) z) rfl rfl qs67) q1872 q1874 rfl dX5_must_32 ?_
    exact r_vret B dX5_must_35 h
set_option maxHeartbeats 4000000 in
noncomputable def F_X5_must (s : St) (p0 : Int32) : Option (Unit × St) := if (si s 0 20) = 0 then (if p0 = 0 then (nam (setI s 0 20 (1 : Int32)) fun s3 => nam (setI s3 0 19 (si s3 0 15)) fun s5 => F_X5_must_24 s5) else (F_X5_must_24 s)) else (F_X5_must_24 s)
set_option maxHeartbeats 4000000 in
theorem c_X5_must {l : Launch} {E : EV} (hE : GE E) (hS : ∀ σ, eSk E σ → SkM σ) {s s' : St} {r : Unit} {p0 : Int32} (h : F_X5_must  s p0 = some (r, s')) : CT l E yX5_must cX5_must 2 none 2 40 [vr (some 0), vi p0] s none s' := by
  refine CT.start hE (by decide) rfl [(0, vr (some 0)), (1, vi p0)] rfl (fun X hX B => ?_)
  skip
  have B : FX X E cX5_must 2 none "RoseThrowModel" "must" (sn s) (ss s) 2 40 := B
  unfold F_X5_must at h
  refine r_aload_n (j := 0) B dX5_must_0 rfl rfl ?_
  refine g5 (k := 20) B (vi (si s 0 20)) rfl (fun z => by rw [(hS _ z).1 0 (by decide)]; rfl) rfl q1537 rfl (fun _ => rfl) dX5_must_1 ?_
  refine r_if_ne (tgt := 24) B dX5_must_4 (by decide) (fun cn1 => ?_) (fun cn1 => ?_)
  · have h := of cn1 h
    refine r_pick [0] (L' := [(0, vr (some 0))]) rfl ?_
    exact w_X5_must_24 B hS s h
  · have h := ot cn1 h
    refine r_iload_n (j := 1) B dX5_must_7 rfl rfl ?_
    refine r_if_ne (tgt := 24) B dX5_must_8 (by decide) (fun cn2 => ?_) (fun cn2 => ?_)
    · have h := of cn2 h
      refine r_pick [0] (L' := [(0, vr (some 0))]) rfl ?_
      exact w_X5_must_24 B hS s h
    · have h := ot cn2 h
      refine r_aload_n (j := 0) B dX5_must_11 rfl rfl ?_
      refine r_iconst (v := 1) B dX5_must_12 (by decide) ?_
      obtain ⟨s3, e4, h⟩ := nam_e h
      refine pI5 (k := 20) B e4 rfl (fun z => by rw [(hS _ z).1 0 (by decide)]; rfl) rfl q1537 rfl rfl (fun _ _ _ => rfl) (by decide) dX5_must_13 ?_
      refine r_aload_n (j := 0) B dX5_must_16 rfl rfl ?_
      refine r_aload_n (j := 0) B dX5_must_17 rfl rfl ?_
      refine g5 (k := 15) B (vi (si s3 0 15)) rfl (fun z => by rw [(hS _ z).1 0 (by decide)]; rfl) rfl q1532 rfl (fun _ => rfl) dX5_must_18 ?_
      obtain ⟨s5, e6, h⟩ := nam_e h
      refine pI5 (k := 19) B e6 rfl (fun z => by rw [(hS _ z).1 0 (by decide)]; rfl) rfl q1536 rfl rfl (fun _ _ _ => rfl) rfl dX5_must_21 ?_
      refine r_pick [0] (L' := [(0, vr (some 0))]) rfl ?_
      exact w_X5_must_24 B hS s5 h
set_option maxHeartbeats 4000000 in
theorem cw_X5_must {X : CX} {fr lo : Nat} (h1 : Nat.ble (2 + 1) fr = true) (h2 : Nat.ble (21 + 40) lo = true) : CW X fr lo yX5_must cX5_must 2 none 2 40 1 := ⟨q1898, q136, ⟨by decide +kernel, by decide +kernel, by decide +kernel⟩, Nat.le_of_ble_eq_true h1, Nat.le_of_ble_eq_true h2⟩

set_option maxHeartbeats 4000000 in
noncomputable def F_X5_push (s : St) (p0 : Int32) (p1 : Int32) : Option (Unit × St) := gd (inb (si s 0 30) 400) <| nam (setI s 14 (si s 0 30).toNatClampNeg p0) fun s2 => gd (inb (si s2 0 30) 400) <| nam (setI s2 15 (si s2 0 30).toNatClampNeg p1) fun s5 => nam (setI s5 0 30 ((si s5 0 30) + (1 : Int32))) fun s7 => some ((), s7)
set_option maxHeartbeats 4000000 in
theorem c_X5_push {l : Launch} {E : EV} (hE : GE E) (hS : ∀ σ, eSk E σ → SkM σ) {s s' : St} {r : Unit} {p0 : Int32} {p1 : Int32} (h : F_X5_push  s p0 p1 = some (r, s')) : CT l E yX5_push cX5_push 3 none 0 0 [vr (some 0), vi p0, vi p1] s none s' := by
  refine CT.start hE (by decide) rfl [(0, vr (some 0)), (1, vi p0), (2, vi p1)] rfl (fun X hX B => ?_)
  skip
  have B : FX X E cX5_push 3 none "RoseThrowModel" "push" (sn s) (ss s) 0 0 := B
  unfold F_X5_push at h
  refine r_aload_n (j := 0) B dX5_push_0 rfl rfl ?_
  refine g5 (k := 28) B (vr (some 14)) rfl (fun z => by rw [(hS _ z).1 0 (by decide)]; rfl) rfl q1545 rfl (fun z => by rw [(hS _ z).2 _ (List.mem_of_getElem? (i := 13) rfl)]; rfl) dX5_push_1 ?_
  refine r_aload_n (j := 0) B dX5_push_4 rfl rfl ?_
  refine g5 (k := 30) B (vi (si s 0 30)) rfl (fun z => by rw [(hS _ z).1 0 (by decide)]; rfl) rfl q1547 rfl (fun _ => rfl) dX5_push_5 ?_
  refine r_iload_n (j := 1) B dX5_push_8 rfl rfl ?_
  obtain ⟨hg1, h⟩ := gd_e h
  obtain ⟨s2, e3, h⟩ := nam_e h
  refine r_iast B e3 rfl (fun z => (hS _ z).1 14 (by decide)) hg1 dX5_push_9 ?_
  refine r_aload_n (j := 0) B dX5_push_10 rfl rfl ?_
  refine g5 (k := 29) B (vr (some 15)) rfl (fun z => by rw [(hS _ z).1 0 (by decide)]; rfl) rfl q1546 rfl (fun z => by rw [(hS _ z).2 _ (List.mem_of_getElem? (i := 14) rfl)]; rfl) dX5_push_11 ?_
  refine r_aload_n (j := 0) B dX5_push_14 rfl rfl ?_
  refine g5 (k := 30) B (vi (si s2 0 30)) rfl (fun z => by rw [(hS _ z).1 0 (by decide)]; rfl) rfl q1547 rfl (fun _ => rfl) dX5_push_15 ?_
  refine r_iload_n (j := 2) B dX5_push_18 rfl rfl ?_
  obtain ⟨hg4, h⟩ := gd_e h
  obtain ⟨s5, e6, h⟩ := nam_e h
  refine r_iast B e6 rfl (fun z => (hS _ z).1 15 (by decide)) hg4 dX5_push_19 ?_
  refine r_aload_n (j := 0) B dX5_push_20 rfl rfl ?_
  refine r_dup B dX5_push_21 rfl ?_
  refine g5 (k := 30) B (vi (si s5 0 30)) rfl (fun z => by rw [(hS _ z).1 0 (by decide)]; rfl) rfl q1547 rfl (fun _ => rfl) dX5_push_22 ?_
  refine r_iconst (v := 1) B dX5_push_25 (by decide) ?_
  refine r_iadd B dX5_push_26 ?_
  obtain ⟨s7, e8, h⟩ := nam_e h
  refine pI5 (k := 30) B e8 rfl (fun z => by rw [(hS _ z).1 0 (by decide)]; rfl) rfl q1547 rfl rfl (fun _ _ _ => rfl) rfl dX5_push_27 ?_
  exact r_vret B dX5_push_30 h
set_option maxHeartbeats 4000000 in
theorem cw_X5_push {X : CX} {fr lo : Nat} (h1 : Nat.ble (0 + 1) fr = true) (h2 : Nat.ble (22 + 0) lo = true) : CW X fr lo yX5_push cX5_push 3 none 0 0 2 := ⟨q1911, q136, ⟨by decide +kernel, by decide +kernel, by decide +kernel⟩, Nat.le_of_ble_eq_true h1, Nat.le_of_ble_eq_true h2⟩

set_option maxHeartbeats 4000000 in
noncomputable def F_X5_isSign (s : St) (p0 : Int32) : Option (Int32 × St) := if (si s 0 17) = (3 : Int32) then (if (sl s 0 18) = ((p0).toInt64) then (some ((1 : Int32), s)) else (some ((0 : Int32), s))) else (some ((0 : Int32), s))
set_option maxHeartbeats 4000000 in
theorem c_X5_isSign {l : Launch} {E : EV} (hE : GE E) (hS : ∀ σ, eSk E σ → SkM σ) {s s' : St} {r : Int32} {p0 : Int32} (h : F_X5_isSign  s p0 = some (r, s')) : CT l E yX5_isSign cX5_isSign 2 (some .boolean) 0 0 [vr (some 0), vi p0] s (some (vi r)) s' := by
  refine CT.start hE (by decide) rfl [(0, vr (some 0)), (1, vi p0)] rfl (fun X hX B => ?_)
  skip
  have B : FX X E cX5_isSign 2 (some .boolean) "RoseThrowModel" "isSign" (sn s) (ss s) 0 0 := B
  unfold F_X5_isSign at h
  refine r_aload_n (j := 0) B dX5_isSign_0 rfl rfl ?_
  refine g5 (k := 17) B (vi (si s 0 17)) rfl (fun z => by rw [(hS _ z).1 0 (by decide)]; rfl) rfl q1534 rfl (fun _ => rfl) dX5_isSign_1 ?_
  refine r_iconst (v := 3) B dX5_isSign_4 (by decide) ?_
  refine r_ic_ne (tgt := 22) B dX5_isSign_5 (by decide) (fun cn1 => ?_) (fun cn1 => ?_)
  · have h := of cn1 h
    refine r_iconst (v := 0) B dX5_isSign_22 (by decide) ?_
    exact r_zret B dX5_isSign_23 (by decide) h
  · have h := ot cn1 h
    refine r_aload_n (j := 0) B dX5_isSign_8 rfl rfl ?_
    refine g5 (k := 18) B (vl (sl s 0 18)) rfl (fun z => by rw [(hS _ z).1 0 (by decide)]; rfl) rfl q1535 rfl (fun _ => rfl) dX5_isSign_9 ?_
    refine r_iload_n (j := 1) B dX5_isSign_12 rfl rfl ?_
    refine r_i2l B dX5_isSign_13 ?_
    refine r_lcmp B dX5_isSign_14 ?_
    refine r_if_ne (tgt := 22) B dX5_isSign_15 (by decide) (fun cn2 => ?_) (fun cn2 => ?_)
    · have h := of (fun z => cn2 (lc_eq.mpr z)) h
      refine r_iconst (v := 0) B dX5_isSign_22 (by decide) ?_
      exact r_zret B dX5_isSign_23 (by decide) h
    · have h := ot (lc_eq.mp cn2) h
      refine r_iconst (v := 1) B dX5_isSign_18 (by decide) ?_
      refine r_goto (tgt := 23) B dX5_isSign_19 (by decide) ?_
      exact r_zret B dX5_isSign_23 (by decide) h
set_option maxHeartbeats 4000000 in
theorem cw_X5_isSign {X : CX} {fr lo : Nat} (h1 : Nat.ble (0 + 1) fr = true) (h2 : Nat.ble (21 + 0) lo = true) : CW X fr lo yX5_isSign cX5_isSign 2 (some .boolean) 0 0 1 := ⟨q1915, q136, ⟨by decide +kernel, by decide +kernel, by decide +kernel⟩, Nat.le_of_ble_eq_true h1, Nat.le_of_ble_eq_true h2⟩

set_option maxHeartbeats 4000000 in
noncomputable def F_X5_openBracket_15 (s : St) (x1 : Int32) (z0 : Int32) : Option (Unit × St) := bnd (F_X5_must s z0) fun _ s2 => if (si s2 0 20) = 0 then (nam (setI s2 0 31 ((si s2 0 31) + (1 : Int32))) fun s5 => bnd (F_X5_push s5 x1 (0 : Int32)) fun _ s8 => some ((), s8)) else (some ((), s2))
set_option maxHeartbeats 4000000 in
theorem w_X5_openBracket_15 {X : CX} {E : EV} {a0 s' : St} {r : Unit} (B : FX X E cX5_openBracket 2 none "RoseThrowModel" "openBracket" (sn a0) (ss a0) 3 61) (hS : ∀ σ, eSk E σ → SkM σ) (s : St) (x1 : Int32) (z0 : Int32) (h : F_X5_openBracket_15   s x1 z0 = some (r, s')) : J X E (sn a0) (ss a0) 2 (QR X E a0 none s') s 15 [(0, vr (some 0)), (1, vi x1)] [vi z0, vr (some 0)] := by
  unfold F_X5_openBracket_15 at h
  obtain ⟨r1, s2, hc3, h⟩ := bnd_e h
  refine r_callV0 (As := [vi z0]) (rest := []) B rfl rfl EX.same (c_X5_must B.ge hS hc3) (cw_X5_must rfl rfl) (fun z => RV.of 5 ((fun z => by rw [(hS _ z).1 0 (by decide)]; rfl) z) rfl rfl qs70) q1895 q1897 rfl dX5_openBracket_15 ?_
  refine r_aload_n (j := 0) B dX5_openBracket_18 rfl rfl ?_
  refine g5 (k := 20) B (vi (si s2 0 20)) rfl (fun z => by rw [(hS _ z).1 0 (by decide)]; rfl) rfl q1537 rfl (fun _ => rfl) dX5_openBracket_19 ?_
  refine r_if_ne (tgt := 41) B dX5_openBracket_22 (by decide) (fun cn4 => ?_) (fun cn4 => ?_)
  · have h := of cn4 h
    exact r_vret B dX5_openBracket_41 h
  · have h := ot cn4 h
    refine r_aload_n (j := 0) B dX5_openBracket_25 rfl rfl ?_
    refine r_dup B dX5_openBracket_26 rfl ?_
    refine g5 (k := 31) B (vi (si s2 0 31)) rfl (fun z => by rw [(hS _ z).1 0 (by decide)]; rfl) rfl q1548 rfl (fun _ => rfl) dX5_openBracket_27 ?_
    refine r_iconst (v := 1) B dX5_openBracket_30 (by decide) ?_
    refine r_iadd B dX5_openBracket_31 ?_
    obtain ⟨s5, e6, h⟩ := nam_e h
    refine pI5 (k := 31) B e6 rfl (fun z => by rw [(hS _ z).1 0 (by decide)]; rfl) rfl q1548 rfl rfl (fun _ _ _ => rfl) rfl dX5_openBracket_32 ?_
    refine r_aload_n (j := 0) B dX5_openBracket_35 rfl rfl ?_
    refine r_iload_n (j := 1) B dX5_openBracket_36 rfl rfl ?_
    refine r_iconst (v := 0) B dX5_openBracket_37 (by decide) ?_
    obtain ⟨r7, s8, hc9, h⟩ := bnd_e h
    refine r_callV0 (As := [vi x1, vi (0 : Int32)]) (rest := []) B rfl rfl EX.same (c_X5_push B.ge hS hc9) (cw_X5_push rfl rfl) (fun z => RV.of 5 ((fun z => by rw [(hS _ z).1 0 (by decide)]; rfl) z) rfl rfl qs73) q1908 q1910 rfl dX5_openBracket_38 ?_
    exact r_vret B dX5_openBracket_41 h
set_option maxHeartbeats 4000000 in
noncomputable def F_X5_openBracket (s : St) (p0 : Int32) : Option (Unit × St) := if (8 : Int32) ≤ (si s 0 31) then (F_X5_openBracket_15 s p0 (0 : Int32)) else (F_X5_openBracket_15 s p0 (1 : Int32))
set_option maxHeartbeats 4000000 in
theorem c_X5_openBracket {l : Launch} {E : EV} (hE : GE E) (hS : ∀ σ, eSk E σ → SkM σ) {s s' : St} {r : Unit} {p0 : Int32} (h : F_X5_openBracket  s p0 = some (r, s')) : CT l E yX5_openBracket cX5_openBracket 2 none 3 61 [vr (some 0), vi p0] s none s' := by
  refine CT.start hE (by decide) rfl [(0, vr (some 0)), (1, vi p0)] rfl (fun X hX B => ?_)
  skip
  have B : FX X E cX5_openBracket 2 none "RoseThrowModel" "openBracket" (sn s) (ss s) 3 61 := B
  unfold F_X5_openBracket at h
  refine r_aload_n (j := 0) B dX5_openBracket_0 rfl rfl ?_
  refine r_aload_n (j := 0) B dX5_openBracket_1 rfl rfl ?_
  refine g5 (k := 31) B (vi (si s 0 31)) rfl (fun z => by rw [(hS _ z).1 0 (by decide)]; rfl) rfl q1548 rfl (fun _ => rfl) dX5_openBracket_2 ?_
  refine r_bipush (v := 8) B dX5_openBracket_5 (by decide) ?_
  refine r_ic_ge (tgt := 14) B dX5_openBracket_7 (by decide) (fun cn1 => ?_) (fun cn1 => ?_)
  · have h := ot cn1 h
    refine r_iconst (v := 0) B dX5_openBracket_14 (by decide) ?_
    exact w_X5_openBracket_15 B hS s p0 (0 : Int32) h
  · have h := of cn1 h
    refine r_iconst (v := 1) B dX5_openBracket_10 (by decide) ?_
    refine r_goto (tgt := 15) B dX5_openBracket_11 (by decide) ?_
    exact w_X5_openBracket_15 B hS s p0 (1 : Int32) h
set_option maxHeartbeats 4000000 in
theorem cw_X5_openBracket {X : CX} {fr lo : Nat} (h1 : Nat.ble (3 + 1) fr = true) (h2 : Nat.ble (21 + 61) lo = true) : CW X fr lo yX5_openBracket cX5_openBracket 2 none 3 61 1 := ⟨q1919, q136, ⟨by decide +kernel, by decide +kernel, by decide +kernel⟩, Nat.le_of_ble_eq_true h1, Nat.le_of_ble_eq_true h2⟩

set_option maxHeartbeats 4000000 in
noncomputable def F_X5_orderPartAt_4 : Nat → St → Int32 → Int32 → Option (Int32 × St)
  | 0 => fun _ _ _ => none
  | n + 1 => fun s x1 x2 => if (5 : Int32) ≤ x2 then (some (x1, s)) else (gd (inb x2 5) <| bnd (F_X5_isWord s (sl s 17 x2.toNatClampNeg)) fun r3 s4 => if r3 = 0 then (F_X5_orderPartAt_4  n s4 x1 (x2 + (1))) else (F_X5_orderPartAt_4  n s4 (x2 + (1 : Int32)) (x2 + (1))))
set_option maxHeartbeats 4000000 in
theorem w_X5_orderPartAt_4 {X : CX} {E : EV} {a0 s' : St} {r : Int32} (B : FX X E cX5_orderPartAt 3 (some .int) "RoseThrowModel" "orderPartAt" (sn a0) (ss a0) 1 22) (hS : ∀ σ, eSk E σ → SkM σ) : ∀ (n : Nat) (s : St) (x1 : Int32) (x2 : Int32), F_X5_orderPartAt_4   n s x1 x2 = some (r, s') → J X E (sn a0) (ss a0) 3 (QR X E a0 (some (vi r)) s') s 4 [(0, vr (some 0)), (1, vi x1), (2, vi x2)] [] := by
  intro n
  induction n with
  | zero => intro s x1 x2 h; exact absurd (show (none : Option (Int32 × St)) = _ from h) (by simp)
  | succ n ih =>
    intro s x1 x2 h
    rw [F_X5_orderPartAt_4] at h
    refine r_iload_n (j := 2) B dX5_orderPartAt_4 rfl rfl ?_
    refine r_iconst (v := 5) B dX5_orderPartAt_5 (by decide) ?_
    refine r_ic_ge (tgt := 36) B dX5_orderPartAt_6 (by decide) (fun cn1 => ?_) (fun cn1 => ?_)
    · have h := ot cn1 h
      refine r_iload_n (j := 1) B dX5_orderPartAt_36 rfl rfl ?_
      exact r_iret B dX5_orderPartAt_37 h
    · have h := of cn1 h
      refine r_aload_n (j := 0) B dX5_orderPartAt_9 rfl rfl ?_
      refine r_aload_n (j := 0) B dX5_orderPartAt_10 rfl rfl ?_
      refine g5 (k := 33) B (vr (some 17)) rfl (fun z => by rw [(hS _ z).1 0 (by decide)]; rfl) rfl q1550 rfl (fun z => by rw [(hS _ z).2 _ (List.mem_of_getElem? (i := 16) rfl)]; rfl) dX5_orderPartAt_11 ?_
      refine r_iload_n (j := 2) B dX5_orderPartAt_14 rfl rfl ?_
      obtain ⟨hg2, h⟩ := gd_e h
      refine r_lald B rfl (fun z => (hS _ z).1 17 (by decide)) hg2 dX5_orderPartAt_15 ?_
      obtain ⟨r3, s4, hc5, h⟩ := bnd_e h
      refine r_callVv (As := [vl (sl s 17 x2.toNatClampNeg)]) (rest := []) B rfl rfl EX.same (c_X5_isWord B.ge hS hc5) (cw_X5_isWord rfl rfl) (fun z => RV.of 5 ((fun z => by rw [(hS _ z).1 0 (by decide)]; rfl) z) rfl rfl qs69) q1891 q1893 rfl dX5_orderPartAt_16 ?_
      refine r_if_eq (tgt := 28) B dX5_orderPartAt_19 (by decide) (fun cn6 => ?_) (fun cn6 => ?_)
      · have h := ot cn6 h
        refine r_iload_n (j := 1) B dX5_orderPartAt_28 rfl rfl ?_
        refine r_istore_n (L' := [(0, vr (some 0)), (1, vi x1), (2, vi x2)]) B dX5_orderPartAt_29 rfl (by decide) rfl rfl rfl ?_
        refine r_iinc (j := 2) (v := (x2 + (1))) (L' := [(0, vr (some 0)), (1, vi x1), (2, vi (x2 + (1)))]) B dX5_orderPartAt_30 rfl rfl (by decide) rfl rfl rfl ?_
        refine r_goto (tgt := 4) B dX5_orderPartAt_33 (by decide) ?_
        exact ih s4 x1 (x2 + (1)) h
      · have h := of cn6 h
        refine r_iload_n (j := 2) B dX5_orderPartAt_22 rfl rfl ?_
        refine r_iconst (v := 1) B dX5_orderPartAt_23 (by decide) ?_
        refine r_iadd B dX5_orderPartAt_24 ?_
        refine r_goto (tgt := 29) B dX5_orderPartAt_25 (by decide) ?_
        refine r_istore_n (L' := [(0, vr (some 0)), (1, vi (x2 + (1 : Int32))), (2, vi x2)]) B dX5_orderPartAt_29 rfl (by decide) rfl rfl rfl ?_
        refine r_iinc (j := 2) (v := (x2 + (1))) (L' := [(0, vr (some 0)), (1, vi (x2 + (1 : Int32))), (2, vi (x2 + (1)))]) B dX5_orderPartAt_30 rfl rfl (by decide) rfl rfl rfl ?_
        refine r_goto (tgt := 4) B dX5_orderPartAt_33 (by decide) ?_
        exact ih s4 (x2 + (1 : Int32)) (x2 + (1)) h
set_option maxHeartbeats 4000000 in
noncomputable def F_X5_orderPartAt (s : St)  : Option (Int32 × St) := F_X5_orderPartAt_4 FU s (-1 : Int32) (0 : Int32)
set_option maxHeartbeats 4000000 in
theorem c_X5_orderPartAt {l : Launch} {E : EV} (hE : GE E) (hS : ∀ σ, eSk E σ → SkM σ) {s s' : St} {r : Int32}  (h : F_X5_orderPartAt  s  = some (r, s')) : CT l E yX5_orderPartAt cX5_orderPartAt 3 (some .int) 1 22 [vr (some 0)] s (some (vi r)) s' := by
  refine CT.start hE (by decide) rfl [(0, vr (some 0))] rfl (fun X hX B => ?_)
  skip
  have B : FX X E cX5_orderPartAt 3 (some .int) "RoseThrowModel" "orderPartAt" (sn s) (ss s) 1 22 := B
  unfold F_X5_orderPartAt at h
  refine r_iconst (v := -1) B dX5_orderPartAt_0 (by decide) ?_
  refine r_istore_n (L' := [(0, vr (some 0)), (1, vi (-1 : Int32))]) B dX5_orderPartAt_1 rfl (by decide) rfl rfl rfl ?_
  refine r_iconst (v := 0) B dX5_orderPartAt_2 (by decide) ?_
  refine r_istore_n (L' := [(0, vr (some 0)), (1, vi (-1 : Int32)), (2, vi (0 : Int32))]) B dX5_orderPartAt_3 rfl (by decide) rfl rfl rfl ?_
  exact w_X5_orderPartAt_4 B hS FU s (-1 : Int32) (0 : Int32) h
set_option maxHeartbeats 4000000 in
theorem cw_X5_orderPartAt {X : CX} {fr lo : Nat} (h1 : Nat.ble (1 + 1) fr = true) (h2 : Nat.ble (22 + 22) lo = true) : CW X fr lo yX5_orderPartAt cX5_orderPartAt 3 (some .int) 1 22 0 := ⟨q1927, q136, ⟨by decide +kernel, by decide +kernel, by decide +kernel⟩, Nat.le_of_ble_eq_true h1, Nat.le_of_ble_eq_true h2⟩

set_option maxHeartbeats 4000000 in
noncomputable def F_X5_partAt_4 : Nat → St → Int32 → Int32 → Option (Int32 × St)
  | 0 => fun _ _ _ => none
  | n + 1 => fun s x1 x2 => if (14 : Int32) ≤ x2 then (some (x1, s)) else (gd (inb x2 14) <| bnd (F_X5_isWord s (sl s 16 x2.toNatClampNeg)) fun r3 s4 => if r3 = 0 then (F_X5_partAt_4  n s4 x1 (x2 + (1))) else (F_X5_partAt_4  n s4 (x2 + (1 : Int32)) (x2 + (1))))
set_option maxHeartbeats 4000000 in
theorem w_X5_partAt_4 {X : CX} {E : EV} {a0 s' : St} {r : Int32} (B : FX X E cX5_partAt 3 (some .int) "RoseThrowModel" "partAt" (sn a0) (ss a0) 1 22) (hS : ∀ σ, eSk E σ → SkM σ) : ∀ (n : Nat) (s : St) (x1 : Int32) (x2 : Int32), F_X5_partAt_4   n s x1 x2 = some (r, s') → J X E (sn a0) (ss a0) 3 (QR X E a0 (some (vi r)) s') s 4 [(0, vr (some 0)), (1, vi x1), (2, vi x2)] [] := by
  intro n
  induction n with
  | zero => intro s x1 x2 h; exact absurd (show (none : Option (Int32 × St)) = _ from h) (by simp)
  | succ n ih =>
    intro s x1 x2 h
    rw [F_X5_partAt_4] at h
    refine r_iload_n (j := 2) B dX5_partAt_4 rfl rfl ?_
    refine r_bipush (v := 14) B dX5_partAt_5 (by decide) ?_
    refine r_ic_ge (tgt := 37) B dX5_partAt_7 (by decide) (fun cn1 => ?_) (fun cn1 => ?_)
    · have h := ot cn1 h
      refine r_iload_n (j := 1) B dX5_partAt_37 rfl rfl ?_
      exact r_iret B dX5_partAt_38 h
    · have h := of cn1 h
      refine r_aload_n (j := 0) B dX5_partAt_10 rfl rfl ?_
      refine r_aload_n (j := 0) B dX5_partAt_11 rfl rfl ?_
      refine g5 (k := 32) B (vr (some 16)) rfl (fun z => by rw [(hS _ z).1 0 (by decide)]; rfl) rfl q1549 rfl (fun z => by rw [(hS _ z).2 _ (List.mem_of_getElem? (i := 15) rfl)]; rfl) dX5_partAt_12 ?_
      refine r_iload_n (j := 2) B dX5_partAt_15 rfl rfl ?_
      obtain ⟨hg2, h⟩ := gd_e h
      refine r_lald B rfl (fun z => (hS _ z).1 16 (by decide)) hg2 dX5_partAt_16 ?_
      obtain ⟨r3, s4, hc5, h⟩ := bnd_e h
      refine r_callVv (As := [vl (sl s 16 x2.toNatClampNeg)]) (rest := []) B rfl rfl EX.same (c_X5_isWord B.ge hS hc5) (cw_X5_isWord rfl rfl) (fun z => RV.of 5 ((fun z => by rw [(hS _ z).1 0 (by decide)]; rfl) z) rfl rfl qs69) q1891 q1893 rfl dX5_partAt_17 ?_
      refine r_if_eq (tgt := 29) B dX5_partAt_20 (by decide) (fun cn6 => ?_) (fun cn6 => ?_)
      · have h := ot cn6 h
        refine r_iload_n (j := 1) B dX5_partAt_29 rfl rfl ?_
        refine r_istore_n (L' := [(0, vr (some 0)), (1, vi x1), (2, vi x2)]) B dX5_partAt_30 rfl (by decide) rfl rfl rfl ?_
        refine r_iinc (j := 2) (v := (x2 + (1))) (L' := [(0, vr (some 0)), (1, vi x1), (2, vi (x2 + (1)))]) B dX5_partAt_31 rfl rfl (by decide) rfl rfl rfl ?_
        refine r_goto (tgt := 4) B dX5_partAt_34 (by decide) ?_
        exact ih s4 x1 (x2 + (1)) h
      · have h := of cn6 h
        refine r_iload_n (j := 2) B dX5_partAt_23 rfl rfl ?_
        refine r_iconst (v := 1) B dX5_partAt_24 (by decide) ?_
        refine r_iadd B dX5_partAt_25 ?_
        refine r_goto (tgt := 30) B dX5_partAt_26 (by decide) ?_
        refine r_istore_n (L' := [(0, vr (some 0)), (1, vi (x2 + (1 : Int32))), (2, vi x2)]) B dX5_partAt_30 rfl (by decide) rfl rfl rfl ?_
        refine r_iinc (j := 2) (v := (x2 + (1))) (L' := [(0, vr (some 0)), (1, vi (x2 + (1 : Int32))), (2, vi (x2 + (1)))]) B dX5_partAt_31 rfl rfl (by decide) rfl rfl rfl ?_
        refine r_goto (tgt := 4) B dX5_partAt_34 (by decide) ?_
        exact ih s4 (x2 + (1 : Int32)) (x2 + (1)) h
set_option maxHeartbeats 4000000 in
noncomputable def F_X5_partAt (s : St)  : Option (Int32 × St) := F_X5_partAt_4 FU s (-1 : Int32) (0 : Int32)
set_option maxHeartbeats 4000000 in
theorem c_X5_partAt {l : Launch} {E : EV} (hE : GE E) (hS : ∀ σ, eSk E σ → SkM σ) {s s' : St} {r : Int32}  (h : F_X5_partAt  s  = some (r, s')) : CT l E yX5_partAt cX5_partAt 3 (some .int) 1 22 [vr (some 0)] s (some (vi r)) s' := by
  refine CT.start hE (by decide) rfl [(0, vr (some 0))] rfl (fun X hX B => ?_)
  skip
  have B : FX X E cX5_partAt 3 (some .int) "RoseThrowModel" "partAt" (sn s) (ss s) 1 22 := B
  unfold F_X5_partAt at h
  refine r_iconst (v := -1) B dX5_partAt_0 (by decide) ?_
  refine r_istore_n (L' := [(0, vr (some 0)), (1, vi (-1 : Int32))]) B dX5_partAt_1 rfl (by decide) rfl rfl rfl ?_
  refine r_iconst (v := 0) B dX5_partAt_2 (by decide) ?_
  refine r_istore_n (L' := [(0, vr (some 0)), (1, vi (-1 : Int32)), (2, vi (0 : Int32))]) B dX5_partAt_3 rfl (by decide) rfl rfl rfl ?_
  exact w_X5_partAt_4 B hS FU s (-1 : Int32) (0 : Int32) h
set_option maxHeartbeats 4000000 in
theorem cw_X5_partAt {X : CX} {fr lo : Nat} (h1 : Nat.ble (1 + 1) fr = true) (h2 : Nat.ble (22 + 22) lo = true) : CW X fr lo yX5_partAt cX5_partAt 3 (some .int) 1 22 0 := ⟨q1931, q136, ⟨by decide +kernel, by decide +kernel, by decide +kernel⟩, Nat.le_of_ble_eq_true h1, Nat.le_of_ble_eq_true h2⟩

set_option maxHeartbeats 4000000 in
noncomputable def F_X5_emit (s : St) (p0 : Int32) (p1 : Int32) : Option (Unit × St) := gd (inb (si s 0 24) 400) <| nam (setI s 12 (si s 0 24).toNatClampNeg p0) fun s2 => gd (inb (si s2 0 24) 400) <| nam (setI s2 13 (si s2 0 24).toNatClampNeg p1) fun s5 => nam (setI s5 0 24 ((si s5 0 24) + (1 : Int32))) fun s7 => some ((), s7)
set_option maxHeartbeats 4000000 in
theorem c_X5_emit {l : Launch} {E : EV} (hE : GE E) (hS : ∀ σ, eSk E σ → SkM σ) {s s' : St} {r : Unit} {p0 : Int32} {p1 : Int32} (h : F_X5_emit  s p0 p1 = some (r, s')) : CT l E yX5_emit cX5_emit 3 none 0 0 [vr (some 0), vi p0, vi p1] s none s' := by
  refine CT.start hE (by decide) rfl [(0, vr (some 0)), (1, vi p0), (2, vi p1)] rfl (fun X hX B => ?_)
  skip
  have B : FX X E cX5_emit 3 none "RoseThrowModel" "emit" (sn s) (ss s) 0 0 := B
  unfold F_X5_emit at h
  refine r_aload_n (j := 0) B dX5_emit_0 rfl rfl ?_
  refine g5 (k := 25) B (vr (some 12)) rfl (fun z => by rw [(hS _ z).1 0 (by decide)]; rfl) rfl q1542 rfl (fun z => by rw [(hS _ z).2 _ (List.mem_of_getElem? (i := 11) rfl)]; rfl) dX5_emit_1 ?_
  refine r_aload_n (j := 0) B dX5_emit_4 rfl rfl ?_
  refine g5 (k := 24) B (vi (si s 0 24)) rfl (fun z => by rw [(hS _ z).1 0 (by decide)]; rfl) rfl q1541 rfl (fun _ => rfl) dX5_emit_5 ?_
  refine r_iload_n (j := 1) B dX5_emit_8 rfl rfl ?_
  obtain ⟨hg1, h⟩ := gd_e h
  obtain ⟨s2, e3, h⟩ := nam_e h
  refine r_iast B e3 rfl (fun z => (hS _ z).1 12 (by decide)) hg1 dX5_emit_9 ?_
  refine r_aload_n (j := 0) B dX5_emit_10 rfl rfl ?_
  refine g5 (k := 26) B (vr (some 13)) rfl (fun z => by rw [(hS _ z).1 0 (by decide)]; rfl) rfl q1543 rfl (fun z => by rw [(hS _ z).2 _ (List.mem_of_getElem? (i := 12) rfl)]; rfl) dX5_emit_11 ?_
  refine r_aload_n (j := 0) B dX5_emit_14 rfl rfl ?_
  refine g5 (k := 24) B (vi (si s2 0 24)) rfl (fun z => by rw [(hS _ z).1 0 (by decide)]; rfl) rfl q1541 rfl (fun _ => rfl) dX5_emit_15 ?_
  refine r_iload_n (j := 2) B dX5_emit_18 rfl rfl ?_
  obtain ⟨hg4, h⟩ := gd_e h
  obtain ⟨s5, e6, h⟩ := nam_e h
  refine r_iast B e6 rfl (fun z => (hS _ z).1 13 (by decide)) hg4 dX5_emit_19 ?_
  refine r_aload_n (j := 0) B dX5_emit_20 rfl rfl ?_
  refine r_dup B dX5_emit_21 rfl ?_
  refine g5 (k := 24) B (vi (si s5 0 24)) rfl (fun z => by rw [(hS _ z).1 0 (by decide)]; rfl) rfl q1541 rfl (fun _ => rfl) dX5_emit_22 ?_
  refine r_iconst (v := 1) B dX5_emit_25 (by decide) ?_
  refine r_iadd B dX5_emit_26 ?_
  obtain ⟨s7, e8, h⟩ := nam_e h
  refine pI5 (k := 24) B e8 rfl (fun z => by rw [(hS _ z).1 0 (by decide)]; rfl) rfl q1541 rfl rfl (fun _ _ _ => rfl) rfl dX5_emit_27 ?_
  exact r_vret B dX5_emit_30 h
set_option maxHeartbeats 4000000 in
theorem cw_X5_emit {X : CX} {fr lo : Nat} (h1 : Nat.ble (0 + 1) fr = true) (h2 : Nat.ble (22 + 0) lo = true) : CW X fr lo yX5_emit cX5_emit 3 none 0 0 2 := ⟨q1940, q136, ⟨by decide +kernel, by decide +kernel, by decide +kernel⟩, Nat.le_of_ble_eq_true h1, Nat.le_of_ble_eq_true h2⟩

set_option maxHeartbeats 4000000 in
noncomputable def F_X5_leaf_19 (s : St) (x2 : Int32) (x3 : Int32) (z0 : Int32) : Option (Unit × St) := bnd (F_X5_must s z0) fun _ s2 => if (si s2 0 20) = 0 then (bnd (F_X5_emit s2 x2 x3) fun _ s6 => nam (setI s6 0 27 ((si s6 0 27) + (1 : Int32))) fun s8 => some ((), s8)) else (some ((), s2))
set_option maxHeartbeats 4000000 in
theorem w_X5_leaf_19 {X : CX} {E : EV} {a0 s' : St} {r : Unit} (B : FX X E cX5_leaf 4 none "RoseThrowModel" "leaf" (sn a0) (ss a0) 3 61) (hS : ∀ σ, eSk E σ → SkM σ) (s : St) (x2 : Int32) (x3 : Int32) (z0 : Int32) (h : F_X5_leaf_19   s x2 x3 z0 = some (r, s')) : J X E (sn a0) (ss a0) 4 (QR X E a0 none s') s 19 [(0, vr (some 0)), (2, vi x2), (3, vi x3)] [vi z0, vr (some 0)] := by
  unfold F_X5_leaf_19 at h
  obtain ⟨r1, s2, hc3, h⟩ := bnd_e h
  refine r_callV0 (As := [vi z0]) (rest := []) B rfl rfl EX.same (c_X5_must B.ge hS hc3) (cw_X5_must rfl rfl) (fun z => RV.of 5 ((fun z => by rw [(hS _ z).1 0 (by decide)]; rfl) z) rfl rfl qs70) q1895 q1897 rfl dX5_leaf_19 ?_
  refine r_aload_n (j := 0) B dX5_leaf_22 rfl rfl ?_
  refine g5 (k := 20) B (vi (si s2 0 20)) rfl (fun z => by rw [(hS _ z).1 0 (by decide)]; rfl) rfl q1537 rfl (fun _ => rfl) dX5_leaf_23 ?_
  refine r_if_ne (tgt := 45) B dX5_leaf_26 (by decide) (fun cn4 => ?_) (fun cn4 => ?_)
  · have h := of cn4 h
    exact r_vret B dX5_leaf_45 h
  · have h := ot cn4 h
    refine r_aload_n (j := 0) B dX5_leaf_29 rfl rfl ?_
    refine r_iload_n (j := 1) B dX5_leaf_30 rfl rfl ?_
    refine r_iload_n (j := 2) B dX5_leaf_31 rfl rfl ?_
    obtain ⟨r5, s6, hc7, h⟩ := bnd_e h
    refine r_callV0 (As := [vi x2, vi x3]) (rest := []) B rfl rfl EX.same (c_X5_emit B.ge hS hc7) (cw_X5_emit rfl rfl) (fun z => RV.of 5 ((fun z => by rw [(hS _ z).1 0 (by decide)]; rfl) z) rfl rfl qs80) q1937 q1939 rfl dX5_leaf_32 ?_
    refine r_aload_n (j := 0) B dX5_leaf_35 rfl rfl ?_
    refine r_dup B dX5_leaf_36 rfl ?_
    refine g5 (k := 27) B (vi (si s6 0 27)) rfl (fun z => by rw [(hS _ z).1 0 (by decide)]; rfl) rfl q1544 rfl (fun _ => rfl) dX5_leaf_37 ?_
    refine r_iconst (v := 1) B dX5_leaf_40 (by decide) ?_
    refine r_iadd B dX5_leaf_41 ?_
    obtain ⟨s8, e9, h⟩ := nam_e h
    refine pI5 (k := 27) B e9 rfl (fun z => by rw [(hS _ z).1 0 (by decide)]; rfl) rfl q1544 rfl rfl (fun _ _ _ => rfl) rfl dX5_leaf_42 ?_
    exact r_vret B dX5_leaf_45 h
set_option maxHeartbeats 4000000 in
noncomputable def F_X5_leaf_18 (s : St) (x2 : Int32) (x3 : Int32) : Option (Unit × St) := F_X5_leaf_19 s x2 x3 (0 : Int32)
set_option maxHeartbeats 4000000 in
theorem w_X5_leaf_18 {X : CX} {E : EV} {a0 s' : St} {r : Unit} (B : FX X E cX5_leaf 4 none "RoseThrowModel" "leaf" (sn a0) (ss a0) 3 61) (hS : ∀ σ, eSk E σ → SkM σ) (s : St) (x2 : Int32) (x3 : Int32) (h : F_X5_leaf_18   s x2 x3 = some (r, s')) : J X E (sn a0) (ss a0) 4 (QR X E a0 none s') s 18 [(0, vr (some 0)), (2, vi x2), (3, vi x3)] [vr (some 0)] := by
  unfold F_X5_leaf_18 at h
  refine r_iconst (v := 0) B dX5_leaf_18 (by decide) ?_
  exact w_X5_leaf_19 B hS s x2 x3 (0 : Int32) h
set_option maxHeartbeats 4000000 in
noncomputable def F_X5_leaf (s : St) (p0 : Int32) (p1 : Int32) (p2 : Int32) : Option (Unit × St) := if p0 = 0 then (F_X5_leaf_18 s p1 p2) else (if (50 : Int32) ≤ (si s 0 27) then (F_X5_leaf_18 s p1 p2) else (F_X5_leaf_19 s p1 p2 (1 : Int32)))
set_option maxHeartbeats 4000000 in
theorem c_X5_leaf {l : Launch} {E : EV} (hE : GE E) (hS : ∀ σ, eSk E σ → SkM σ) {s s' : St} {r : Unit} {p0 : Int32} {p1 : Int32} {p2 : Int32} (h : F_X5_leaf  s p0 p1 p2 = some (r, s')) : CT l E yX5_leaf cX5_leaf 4 none 3 61 [vr (some 0), vi p0, vi p1, vi p2] s none s' := by
  refine CT.start hE (by decide) rfl [(0, vr (some 0)), (1, vi p0), (2, vi p1), (3, vi p2)] rfl (fun X hX B => ?_)
  skip
  have B : FX X E cX5_leaf 4 none "RoseThrowModel" "leaf" (sn s) (ss s) 3 61 := B
  unfold F_X5_leaf at h
  refine r_aload_n (j := 0) B dX5_leaf_0 rfl rfl ?_
  refine r_iload_n (j := 1) B dX5_leaf_1 rfl rfl ?_
  refine r_if_eq (tgt := 18) B dX5_leaf_2 (by decide) (fun cn1 => ?_) (fun cn1 => ?_)
  · have h := ot cn1 h
    refine r_pick [0, 2, 3] (L' := [(0, vr (some 0)), (2, vi p1), (3, vi p2)]) rfl ?_
    exact w_X5_leaf_18 B hS s p1 p2 h
  · have h := of cn1 h
    refine r_aload_n (j := 0) B dX5_leaf_5 rfl rfl ?_
    refine g5 (k := 27) B (vi (si s 0 27)) rfl (fun z => by rw [(hS _ z).1 0 (by decide)]; rfl) rfl q1544 rfl (fun _ => rfl) dX5_leaf_6 ?_
    refine r_bipush (v := 50) B dX5_leaf_9 (by decide) ?_
    refine r_ic_ge (tgt := 18) B dX5_leaf_11 (by decide) (fun cn2 => ?_) (fun cn2 => ?_)
    · have h := ot cn2 h
      refine r_pick [0, 2, 3] (L' := [(0, vr (some 0)), (2, vi p1), (3, vi p2)]) rfl ?_
      exact w_X5_leaf_18 B hS s p1 p2 h
    · have h := of cn2 h
      refine r_iconst (v := 1) B dX5_leaf_14 (by decide) ?_
      refine r_goto (tgt := 19) B dX5_leaf_15 (by decide) ?_
      refine r_pick [0, 2, 3] (L' := [(0, vr (some 0)), (2, vi p1), (3, vi p2)]) rfl ?_
      exact w_X5_leaf_19 B hS s p1 p2 (1 : Int32) h
set_option maxHeartbeats 4000000 in
theorem cw_X5_leaf {X : CX} {fr lo : Nat} (h1 : Nat.ble (3 + 1) fr = true) (h2 : Nat.ble (23 + 61) lo = true) : CW X fr lo yX5_leaf cX5_leaf 4 none 3 61 3 := ⟨q1936, q136, ⟨by decide +kernel, by decide +kernel, by decide +kernel⟩, Nat.le_of_ble_eq_true h1, Nat.le_of_ble_eq_true h2⟩

set_option maxHeartbeats 4000000 in
noncomputable def F_X5_number_33 (s : St) (x5 : Int32) (z0 : Int32) : Option (Int32 × St) := bnd (F_X5_must s z0) fun _ s2 => some (x5, s2)
set_option maxHeartbeats 4000000 in
theorem w_X5_number_33 {X : CX} {E : EV} {a0 s' : St} {r : Int32} (B : FX X E cX5_number 6 (some .int) "RoseThrowModel" "number" (sn a0) (ss a0) 3 61) (hS : ∀ σ, eSk E σ → SkM σ) (s : St) (x5 : Int32) (z0 : Int32) (h : F_X5_number_33   s x5 z0 = some (r, s')) : J X E (sn a0) (ss a0) 6 (QR X E a0 (some (vi r)) s') s 33 [(5, vi x5)] [vi z0, vr (some 0)] := by
  unfold F_X5_number_33 at h
  obtain ⟨r1, s2, hc3, h⟩ := bnd_e h
  refine r_callV0 (As := [vi z0]) (rest := []) B rfl rfl EX.same (c_X5_must B.ge hS hc3) (cw_X5_must rfl rfl) (fun z => RV.of 5 ((fun z => by rw [(hS _ z).1 0 (by decide)]; rfl) z) rfl rfl qs70) q1895 q1897 rfl dX5_number_33 ?_
  refine r_iload (j := 0) B dX5_number_36 rfl ?_
  exact r_iret B dX5_number_38 h
set_option maxHeartbeats 4000000 in
noncomputable def F_X5_number_32 (s : St) (x5 : Int32) : Option (Int32 × St) := F_X5_number_33 s x5 (0 : Int32)
set_option maxHeartbeats 4000000 in
theorem w_X5_number_32 {X : CX} {E : EV} {a0 s' : St} {r : Int32} (B : FX X E cX5_number 6 (some .int) "RoseThrowModel" "number" (sn a0) (ss a0) 3 61) (hS : ∀ σ, eSk E σ → SkM σ) (s : St) (x5 : Int32) (h : F_X5_number_32   s x5 = some (r, s')) : J X E (sn a0) (ss a0) 6 (QR X E a0 (some (vi r)) s') s 32 [(5, vi x5)] [vr (some 0)] := by
  unfold F_X5_number_32 at h
  refine r_iconst (v := 0) B dX5_number_32 (by decide) ?_
  exact w_X5_number_33 B hS s x5 (0 : Int32) h
set_option maxHeartbeats 4000000 in
noncomputable def F_X5_number (s : St) (p0 : Int64) (p1 : Int64) : Option (Int32 × St) := if (si s 0 17) = (2 : Int32) then (bnd (F_X5_in s (sl s 0 18) p0 p1) fun r2 s3 => if r2 = 0 then (F_X5_number_32 s3 (((sl s 0 18)).toInt32)) else (F_X5_number_33 s3 (((sl s 0 18)).toInt32) (1 : Int32))) else (F_X5_number_32 s (((sl s 0 18)).toInt32))
set_option maxHeartbeats 4000000 in
theorem c_X5_number {l : Launch} {E : EV} (hE : GE E) (hS : ∀ σ, eSk E σ → SkM σ) {s s' : St} {r : Int32} {p0 : Int64} {p1 : Int64} (h : F_X5_number  s p0 p1 = some (r, s')) : CT l E yX5_number cX5_number 6 (some .int) 3 61 [vr (some 0), vl p0, vl p1] s (some (vi r)) s' := by
  refine CT.start hE (by decide) rfl [(0, vr (some 0)), (1, vl p0), (3, vl p1)] rfl (fun X hX B => ?_)
  skip
  have B : FX X E cX5_number 6 (some .int) "RoseThrowModel" "number" (sn s) (ss s) 3 61 := B
  unfold F_X5_number at h
  refine r_aload_n (j := 0) B dX5_number_0 rfl rfl ?_
  refine g5 (k := 18) B (vl (sl s 0 18)) rfl (fun z => by rw [(hS _ z).1 0 (by decide)]; rfl) rfl q1535 rfl (fun _ => rfl) dX5_number_1 ?_
  refine r_l2i B dX5_number_4 ?_
  refine r_istore (L' := [(0, vr (some 0)), (1, vl p0), (3, vl p1), (5, vi (((sl s 0 18)).toInt32))]) B dX5_number_5 (by decide) rfl rfl rfl ?_
  refine r_aload_n (j := 0) B dX5_number_7 rfl rfl ?_
  refine r_aload_n (j := 0) B dX5_number_8 rfl rfl ?_
  refine g5 (k := 17) B (vi (si s 0 17)) rfl (fun z => by rw [(hS _ z).1 0 (by decide)]; rfl) rfl q1534 rfl (fun _ => rfl) dX5_number_9 ?_
  refine r_iconst (v := 2) B dX5_number_12 (by decide) ?_
  refine r_ic_ne (tgt := 32) B dX5_number_13 (by decide) (fun cn1 => ?_) (fun cn1 => ?_)
  · have h := of cn1 h
    refine r_pick [3] (L' := [(5, vi (((sl s 0 18)).toInt32))]) rfl ?_
    exact w_X5_number_32 B hS s (((sl s 0 18)).toInt32) h
  · have h := ot cn1 h
    refine r_aload_n (j := 0) B dX5_number_16 rfl rfl ?_
    refine g5 (k := 18) B (vl (sl s 0 18)) rfl (fun z => by rw [(hS _ z).1 0 (by decide)]; rfl) rfl q1535 rfl (fun _ => rfl) dX5_number_17 ?_
    refine r_lload_n (j := 1) B dX5_number_20 rfl rfl ?_
    refine r_lload_n (j := 2) B dX5_number_21 rfl rfl ?_
    obtain ⟨r2, s3, hc4, h⟩ := bnd_e h
    refine r_callSv (As := [vl (sl s 0 18), vl p0, vl p1]) (rest := [vr (some 0)]) B rfl EX.same (c_X5_in B.ge hS hc4) (cw_X5_in rfl rfl) q1740 q1741 rfl dX5_number_22 ?_
    refine r_if_eq (tgt := 32) B dX5_number_25 (by decide) (fun cn5 => ?_) (fun cn5 => ?_)
    · have h := ot cn5 h
      refine r_pick [3] (L' := [(5, vi (((sl s 0 18)).toInt32))]) rfl ?_
      exact w_X5_number_32 B hS s3 (((sl s 0 18)).toInt32) h
    · have h := of cn5 h
      refine r_iconst (v := 1) B dX5_number_28 (by decide) ?_
      refine r_goto (tgt := 33) B dX5_number_29 (by decide) ?_
      refine r_pick [3] (L' := [(5, vi (((sl s 0 18)).toInt32))]) rfl ?_
      exact w_X5_number_33 B hS s3 (((sl s 0 18)).toInt32) (1 : Int32) h
set_option maxHeartbeats 4000000 in
theorem cw_X5_number {X : CX} {fr lo : Nat} (h1 : Nat.ble (3 + 1) fr = true) (h2 : Nat.ble (25 + 61) lo = true) : CW X fr lo yX5_number cX5_number 6 (some .int) 3 61 2 := ⟨q1944, q136, ⟨by decide +kernel, by decide +kernel, by decide +kernel⟩, Nat.le_of_ble_eq_true h1, Nat.le_of_ble_eq_true h2⟩

set_option maxHeartbeats 4000000 in
noncomputable def F_X5_readPart_99 (s : St) (x1 : Int32) (z0 : Int32) (z1 : Int32) (z2 : Int32) : Option (Int32 × St) := bnd (F_X5_leaf s z2 z1 z0) fun _ s2 => if (si s2 0 21) = 0 then (some ((3 : Int32), s2)) else (if x1 < (4 : Int32) then (some ((3 : Int32), s2)) else (if (si s2 0 20) = 0 then (bnd (F_X5_number s2 (0 : Int64) (5 : Int64)) fun r7 s8 => gd (inb ((si s2 0 24) - (1 : Int32)) 400) <| nam (setI s8 13 ((si s2 0 24) - (1 : Int32)).toNatClampNeg r7) fun s11 => some ((3 : Int32), s11)) else (some ((3 : Int32), s2))))
set_option maxHeartbeats 4000000 in
theorem w_X5_readPart_99 {X : CX} {E : EV} {a0 s' : St} {r : Int32} (B : FX X E cX5_readPart 4 (some .int) "RoseThrowModel" "readPart" (sn a0) (ss a0) 4 86) (hS : ∀ σ, eSk E σ → SkM σ) (s : St) (x1 : Int32) (z0 : Int32) (z1 : Int32) (z2 : Int32) (h : F_X5_readPart_99   s x1 z0 z1 z2 = some (r, s')) : J X E (sn a0) (ss a0) 4 (QR X E a0 (some (vi r)) s') s 99 [(0, vr (some 0)), (1, vi x1)] [vi z0, vi z1, vi z2, vr (some 0)] := by
  unfold F_X5_readPart_99 at h
  obtain ⟨r1, s2, hc3, h⟩ := bnd_e h
  refine r_callV0 (As := [vi z2, vi z1, vi z0]) (rest := []) B rfl rfl EX.same (c_X5_leaf B.ge hS hc3) (cw_X5_leaf rfl rfl) (fun z => RV.of 5 ((fun z => by rw [(hS _ z).1 0 (by decide)]; rfl) z) rfl rfl qs79) q1933 q1935 rfl dX5_readPart_99 ?_
  refine r_aload_n (j := 0) B dX5_readPart_102 rfl rfl ?_
  refine g5 (k := 21) B (vi (si s2 0 21)) rfl (fun z => by rw [(hS _ z).1 0 (by decide)]; rfl) rfl q1538 rfl (fun _ => rfl) dX5_readPart_103 ?_
  refine r_if_eq (tgt := 142) B dX5_readPart_106 (by decide) (fun cn4 => ?_) (fun cn4 => ?_)
  · have h := ot cn4 h
    refine r_iconst (v := 3) B dX5_readPart_142 (by decide) ?_
    exact r_iret B dX5_readPart_143 h
  · have h := of cn4 h
    refine r_iload_n (j := 1) B dX5_readPart_109 rfl rfl ?_
    refine r_iconst (v := 4) B dX5_readPart_110 (by decide) ?_
    refine r_ic_lt (tgt := 142) B dX5_readPart_111 (by decide) (fun cn5 => ?_) (fun cn5 => ?_)
    · have h := ot cn5 h
      refine r_iconst (v := 3) B dX5_readPart_142 (by decide) ?_
      exact r_iret B dX5_readPart_143 h
    · have h := of cn5 h
      refine r_aload_n (j := 0) B dX5_readPart_114 rfl rfl ?_
      refine g5 (k := 20) B (vi (si s2 0 20)) rfl (fun z => by rw [(hS _ z).1 0 (by decide)]; rfl) rfl q1537 rfl (fun _ => rfl) dX5_readPart_115 ?_
      refine r_if_ne (tgt := 142) B dX5_readPart_118 (by decide) (fun cn6 => ?_) (fun cn6 => ?_)
      · have h := of cn6 h
        refine r_iconst (v := 3) B dX5_readPart_142 (by decide) ?_
        exact r_iret B dX5_readPart_143 h
      · have h := ot cn6 h
        refine r_aload_n (j := 0) B dX5_readPart_121 rfl rfl ?_
        refine g5 (k := 24) B (vi (si s2 0 24)) rfl (fun z => by rw [(hS _ z).1 0 (by decide)]; rfl) rfl q1541 rfl (fun _ => rfl) dX5_readPart_122 ?_
        refine r_iconst (v := 1) B dX5_readPart_125 (by decide) ?_
        refine r_isub B dX5_readPart_126 ?_
        refine r_istore_n (L' := [(0, vr (some 0)), (1, vi x1), (3, vi ((si s2 0 24) - (1 : Int32)))]) B dX5_readPart_127 rfl (by decide) rfl rfl rfl ?_
        refine r_aload_n (j := 0) B dX5_readPart_128 rfl rfl ?_
        refine g5 (k := 26) B (vr (some 13)) rfl (fun z => by rw [(hS _ z).1 0 (by decide)]; rfl) rfl q1543 rfl (fun z => by rw [(hS _ z).2 _ (List.mem_of_getElem? (i := 12) rfl)]; rfl) dX5_readPart_129 ?_
        refine r_iload_n (j := 2) B dX5_readPart_132 rfl rfl ?_
        refine r_aload_n (j := 0) B dX5_readPart_133 rfl rfl ?_
        refine r_lconst (v := 0) B dX5_readPart_134 (by decide) ?_
        refine r_ldc2 B dX5_readPart_135 q1833 ?_
        obtain ⟨r7, s8, hc9, h⟩ := bnd_e h
        refine r_callVv (As := [vl (0 : Int64), vl (5 : Int64)]) (rest := [vi ((si s2 0 24) - (1 : Int32)), vr (some 13)]) B rfl rfl EX.same (c_X5_number B.ge hS hc9) (cw_X5_number rfl rfl) (fun z => RV.of 5 ((fun z => by rw [(hS _ z).1 0 (by decide)]; rfl) z) rfl rfl qs81) q1941 q1943 rfl dX5_readPart_138 ?_
        obtain ⟨hg10, h⟩ := gd_e h
        obtain ⟨s11, e12, h⟩ := nam_e h
        refine r_iast B e12 rfl (fun z => (hS _ z).1 13 (by decide)) hg10 dX5_readPart_141 ?_
        refine r_iconst (v := 3) B dX5_readPart_142 (by decide) ?_
        exact r_iret B dX5_readPart_143 h
set_option maxHeartbeats 4000000 in
noncomputable def F_X5_readPart_86 (s : St) (x1 : Int32) (x2 : Int32) (z0 : Int32) (z1 : Int32) : Option (Int32 × St) := if x2 = 0 then (F_X5_readPart_99 s x1 (0 : Int32) z0 z1) else (F_X5_readPart_99 s x1 (((sl s 0 18)).toInt32) z0 z1)
set_option maxHeartbeats 4000000 in
theorem w_X5_readPart_86 {X : CX} {E : EV} {a0 s' : St} {r : Int32} (B : FX X E cX5_readPart 4 (some .int) "RoseThrowModel" "readPart" (sn a0) (ss a0) 4 86) (hS : ∀ σ, eSk E σ → SkM σ) (s : St) (x1 : Int32) (x2 : Int32) (z0 : Int32) (z1 : Int32) (h : F_X5_readPart_86   s x1 x2 z0 z1 = some (r, s')) : J X E (sn a0) (ss a0) 4 (QR X E a0 (some (vi r)) s') s 86 [(0, vr (some 0)), (1, vi x1), (2, vi x2)] [vi z0, vi z1, vr (some 0)] := by
  unfold F_X5_readPart_86 at h
  refine r_iload_n (j := 2) B dX5_readPart_86 rfl rfl ?_
  refine r_if_eq (tgt := 98) B dX5_readPart_87 (by decide) (fun cn1 => ?_) (fun cn1 => ?_)
  · have h := ot cn1 h
    refine r_iconst (v := 0) B dX5_readPart_98 (by decide) ?_
    refine r_pick [0, 1] (L' := [(0, vr (some 0)), (1, vi x1)]) rfl ?_
    exact w_X5_readPart_99 B hS s x1 (0 : Int32) z0 z1 h
  · have h := of cn1 h
    refine r_aload_n (j := 0) B dX5_readPart_90 rfl rfl ?_
    refine g5 (k := 18) B (vl (sl s 0 18)) rfl (fun z => by rw [(hS _ z).1 0 (by decide)]; rfl) rfl q1535 rfl (fun _ => rfl) dX5_readPart_91 ?_
    refine r_l2i B dX5_readPart_94 ?_
    refine r_goto (tgt := 99) B dX5_readPart_95 (by decide) ?_
    refine r_pick [0, 1] (L' := [(0, vr (some 0)), (1, vi x1)]) rfl ?_
    exact w_X5_readPart_99 B hS s x1 (((sl s 0 18)).toInt32) z0 z1 h
set_option maxHeartbeats 4000000 in
noncomputable def F_X5_readPart_76 (s : St) (x1 : Int32) (x2 : Int32) (z0 : Int32) : Option (Int32 × St) := if x1 = (-1 : Int32) then (F_X5_readPart_86 s x1 x2 (0 : Int32) z0) else (F_X5_readPart_86 s x1 x2 x1 z0)
set_option maxHeartbeats 4000000 in
theorem w_X5_readPart_76 {X : CX} {E : EV} {a0 s' : St} {r : Int32} (B : FX X E cX5_readPart 4 (some .int) "RoseThrowModel" "readPart" (sn a0) (ss a0) 4 86) (hS : ∀ σ, eSk E σ → SkM σ) (s : St) (x1 : Int32) (x2 : Int32) (z0 : Int32) (h : F_X5_readPart_76   s x1 x2 z0 = some (r, s')) : J X E (sn a0) (ss a0) 4 (QR X E a0 (some (vi r)) s') s 76 [(0, vr (some 0)), (1, vi x1), (2, vi x2)] [vi z0, vr (some 0)] := by
  unfold F_X5_readPart_76 at h
  refine r_iload_n (j := 1) B dX5_readPart_76 rfl rfl ?_
  refine r_iconst (v := -1) B dX5_readPart_77 (by decide) ?_
  refine r_ic_ne (tgt := 85) B dX5_readPart_78 (by decide) (fun cn1 => ?_) (fun cn1 => ?_)
  · have h := of cn1 h
    refine r_iload_n (j := 1) B dX5_readPart_85 rfl rfl ?_
    exact w_X5_readPart_86 B hS s x1 x2 x1 z0 h
  · have h := ot cn1 h
    refine r_iconst (v := 0) B dX5_readPart_81 (by decide) ?_
    refine r_goto (tgt := 86) B dX5_readPart_82 (by decide) ?_
    exact w_X5_readPart_86 B hS s x1 x2 (0 : Int32) z0 h
set_option maxHeartbeats 4000000 in
noncomputable def F_X5_readPart_71 (s : St) (x1 : Int32) (x2 : Int32) : Option (Int32 × St) := F_X5_readPart_76 s x1 x2 (1 : Int32)
set_option maxHeartbeats 4000000 in
theorem w_X5_readPart_71 {X : CX} {E : EV} {a0 s' : St} {r : Int32} (B : FX X E cX5_readPart 4 (some .int) "RoseThrowModel" "readPart" (sn a0) (ss a0) 4 86) (hS : ∀ σ, eSk E σ → SkM σ) (s : St) (x1 : Int32) (x2 : Int32) (h : F_X5_readPart_71   s x1 x2 = some (r, s')) : J X E (sn a0) (ss a0) 4 (QR X E a0 (some (vi r)) s') s 71 [(0, vr (some 0)), (1, vi x1), (2, vi x2)] [vr (some 0)] := by
  unfold F_X5_readPart_71 at h
  refine r_iconst (v := 1) B dX5_readPart_71 (by decide) ?_
  refine r_goto (tgt := 76) B dX5_readPart_72 (by decide) ?_
  exact w_X5_readPart_76 B hS s x1 x2 (1 : Int32) h
set_option maxHeartbeats 4000000 in
noncomputable def F_X5_readPart_60 (s : St) (x1 : Int32) (z0 : Int32) : Option (Int32 × St) := if x1 = (-1 : Int32) then (if z0 = 0 then (F_X5_readPart_76 s x1 z0 (0 : Int32)) else (F_X5_readPart_71 s x1 z0)) else (F_X5_readPart_71 s x1 z0)
set_option maxHeartbeats 4000000 in
theorem w_X5_readPart_60 {X : CX} {E : EV} {a0 s' : St} {r : Int32} (B : FX X E cX5_readPart 4 (some .int) "RoseThrowModel" "readPart" (sn a0) (ss a0) 4 86) (hS : ∀ σ, eSk E σ → SkM σ) (s : St) (x1 : Int32) (z0 : Int32) (h : F_X5_readPart_60   s x1 z0 = some (r, s')) : J X E (sn a0) (ss a0) 4 (QR X E a0 (some (vi r)) s') s 60 [(0, vr (some 0)), (1, vi x1)] [vi z0] := by
  unfold F_X5_readPart_60 at h
  refine r_istore_n (L' := [(0, vr (some 0)), (1, vi x1), (2, vi z0)]) B dX5_readPart_60 rfl (by decide) rfl rfl rfl ?_
  refine r_aload_n (j := 0) B dX5_readPart_61 rfl rfl ?_
  refine r_iload_n (j := 1) B dX5_readPart_62 rfl rfl ?_
  refine r_iconst (v := -1) B dX5_readPart_63 (by decide) ?_
  refine r_ic_ne (tgt := 71) B dX5_readPart_64 (by decide) (fun cn1 => ?_) (fun cn1 => ?_)
  · have h := of cn1 h
    exact w_X5_readPart_71 B hS s x1 z0 h
  · have h := ot cn1 h
    refine r_iload_n (j := 2) B dX5_readPart_67 rfl rfl ?_
    refine r_if_eq (tgt := 75) B dX5_readPart_68 (by decide) (fun cn2 => ?_) (fun cn2 => ?_)
    · have h := ot cn2 h
      refine r_iconst (v := 0) B dX5_readPart_75 (by decide) ?_
      exact w_X5_readPart_76 B hS s x1 z0 (0 : Int32) h
    · have h := of cn2 h
      exact w_X5_readPart_71 B hS s x1 z0 h
set_option maxHeartbeats 4000000 in
noncomputable def F_X5_readPart_59 (s : St) (x1 : Int32) : Option (Int32 × St) := F_X5_readPart_60 s x1 (0 : Int32)
set_option maxHeartbeats 4000000 in
theorem w_X5_readPart_59 {X : CX} {E : EV} {a0 s' : St} {r : Int32} (B : FX X E cX5_readPart 4 (some .int) "RoseThrowModel" "readPart" (sn a0) (ss a0) 4 86) (hS : ∀ σ, eSk E σ → SkM σ) (s : St) (x1 : Int32) (h : F_X5_readPart_59   s x1 = some (r, s')) : J X E (sn a0) (ss a0) 4 (QR X E a0 (some (vi r)) s') s 59 [(0, vr (some 0)), (1, vi x1)] [] := by
  unfold F_X5_readPart_59 at h
  refine r_iconst (v := 0) B dX5_readPart_59 (by decide) ?_
  exact w_X5_readPart_60 B hS s x1 (0 : Int32) h
set_option maxHeartbeats 4000000 in
noncomputable def F_X5_readPart_35 (s : St) (z0 : Int32) : Option (Int32 × St) := if (si s 0 17) = (2 : Int32) then (if (1000 : Int64) < (sl s 0 18) then (F_X5_readPart_59 s z0) else (F_X5_readPart_60 s z0 (1 : Int32))) else (F_X5_readPart_59 s z0)
set_option maxHeartbeats 4000000 in
theorem w_X5_readPart_35 {X : CX} {E : EV} {a0 s' : St} {r : Int32} (B : FX X E cX5_readPart 4 (some .int) "RoseThrowModel" "readPart" (sn a0) (ss a0) 4 86) (hS : ∀ σ, eSk E σ → SkM σ) (s : St) (z0 : Int32) (h : F_X5_readPart_35   s z0 = some (r, s')) : J X E (sn a0) (ss a0) 4 (QR X E a0 (some (vi r)) s') s 35 [(0, vr (some 0))] [vi z0] := by
  unfold F_X5_readPart_35 at h
  refine r_istore_n (L' := [(0, vr (some 0)), (1, vi z0)]) B dX5_readPart_35 rfl (by decide) rfl rfl rfl ?_
  refine r_aload_n (j := 0) B dX5_readPart_36 rfl rfl ?_
  refine g5 (k := 17) B (vi (si s 0 17)) rfl (fun z => by rw [(hS _ z).1 0 (by decide)]; rfl) rfl q1534 rfl (fun _ => rfl) dX5_readPart_37 ?_
  refine r_iconst (v := 2) B dX5_readPart_40 (by decide) ?_
  refine r_ic_ne (tgt := 59) B dX5_readPart_41 (by decide) (fun cn1 => ?_) (fun cn1 => ?_)
  · have h := of cn1 h
    exact w_X5_readPart_59 B hS s z0 h
  · have h := ot cn1 h
    refine r_aload_n (j := 0) B dX5_readPart_44 rfl rfl ?_
    refine g5 (k := 18) B (vl (sl s 0 18)) rfl (fun z => by rw [(hS _ z).1 0 (by decide)]; rfl) rfl q1535 rfl (fun _ => rfl) dX5_readPart_45 ?_
    refine r_ldc2 B dX5_readPart_48 q1932 ?_
    refine r_lcmp B dX5_readPart_51 ?_
    refine r_if_gt (tgt := 59) B dX5_readPart_52 (by decide) (fun cn2 => ?_) (fun cn2 => ?_)
    · have h := ot (lc_gt.mp cn2) h
      exact w_X5_readPart_59 B hS s z0 h
    · have h := of (fun z => cn2 (lc_gt.mpr z)) h
      refine r_iconst (v := 1) B dX5_readPart_55 (by decide) ?_
      refine r_goto (tgt := 60) B dX5_readPart_56 (by decide) ?_
      exact w_X5_readPart_60 B hS s z0 (1 : Int32) h
set_option maxHeartbeats 4000000 in
noncomputable def F_X5_readPart (s : St)  : Option (Int32 × St) := bnd (F_X5_isSign s (91 : Int32)) fun r1 s2 => if r1 = 0 then (if (si s2 0 21) = 0 then (bnd (F_X5_partAt s2) fun r6 s7 => F_X5_readPart_35 s7 r6) else (bnd (F_X5_orderPartAt s2) fun r9 s10 => F_X5_readPart_35 s10 r9)) else (bnd (F_X5_openBracket s2 (32 : Int32)) fun _ s13 => some ((1 : Int32), s13))
set_option maxHeartbeats 4000000 in
theorem c_X5_readPart {l : Launch} {E : EV} (hE : GE E) (hS : ∀ σ, eSk E σ → SkM σ) {s s' : St} {r : Int32}  (h : F_X5_readPart  s  = some (r, s')) : CT l E yX5_readPart cX5_readPart 4 (some .int) 4 86 [vr (some 0)] s (some (vi r)) s' := by
  refine CT.start hE (by decide) rfl [(0, vr (some 0))] rfl (fun X hX B => ?_)
  skip
  have B : FX X E cX5_readPart 4 (some .int) "RoseThrowModel" "readPart" (sn s) (ss s) 4 86 := B
  unfold F_X5_readPart at h
  refine r_aload_n (j := 0) B dX5_readPart_0 rfl rfl ?_
  refine r_bipush (v := 91) B dX5_readPart_1 (by decide) ?_
  obtain ⟨r1, s2, hc3, h⟩ := bnd_e h
  refine r_callVv (As := [vi (91 : Int32)]) (rest := []) B rfl rfl EX.same (c_X5_isSign B.ge hS hc3) (cw_X5_isSign rfl rfl) (fun z => RV.of 5 ((fun z => by rw [(hS _ z).1 0 (by decide)]; rfl) z) rfl rfl qs74) q1912 q1914 rfl dX5_readPart_3 ?_
  refine r_if_eq (tgt := 17) B dX5_readPart_6 (by decide) (fun cn4 => ?_) (fun cn4 => ?_)
  · have h := ot cn4 h
    refine r_aload_n (j := 0) B dX5_readPart_17 rfl rfl ?_
    refine g5 (k := 21) B (vi (si s2 0 21)) rfl (fun z => by rw [(hS _ z).1 0 (by decide)]; rfl) rfl q1538 rfl (fun _ => rfl) dX5_readPart_18 ?_
    refine r_if_eq (tgt := 31) B dX5_readPart_21 (by decide) (fun cn5 => ?_) (fun cn5 => ?_)
    · have h := ot cn5 h
      refine r_aload_n (j := 0) B dX5_readPart_31 rfl rfl ?_
      obtain ⟨r6, s7, hc8, h⟩ := bnd_e h
      refine r_callVv (As := []) (rest := []) B rfl rfl EX.same (c_X5_partAt B.ge hS hc8) (cw_X5_partAt rfl rfl) (fun z => RV.of 5 ((fun z => by rw [(hS _ z).1 0 (by decide)]; rfl) z) rfl rfl qs78) q1928 q1930 rfl dX5_readPart_32 ?_
      exact w_X5_readPart_35 B hS s7 r6 h
    · have h := of cn5 h
      refine r_aload_n (j := 0) B dX5_readPart_24 rfl rfl ?_
      obtain ⟨r9, s10, hc11, h⟩ := bnd_e h
      refine r_callVv (As := []) (rest := []) B rfl rfl EX.same (c_X5_orderPartAt B.ge hS hc11) (cw_X5_orderPartAt rfl rfl) (fun z => RV.of 5 ((fun z => by rw [(hS _ z).1 0 (by decide)]; rfl) z) rfl rfl qs77) q1924 q1926 rfl dX5_readPart_25 ?_
      refine r_goto (tgt := 35) B dX5_readPart_28 (by decide) ?_
      exact w_X5_readPart_35 B hS s10 r9 h
  · have h := of cn4 h
    refine r_aload_n (j := 0) B dX5_readPart_9 rfl rfl ?_
    refine r_bipush (v := 32) B dX5_readPart_10 (by decide) ?_
    obtain ⟨r12, s13, hc14, h⟩ := bnd_e h
    refine r_callV0 (As := [vi (32 : Int32)]) (rest := []) B rfl rfl EX.same (c_X5_openBracket B.ge hS hc14) (cw_X5_openBracket rfl rfl) (fun z => RV.of 5 ((fun z => by rw [(hS _ z).1 0 (by decide)]; rfl) z) rfl rfl qs75) q1916 q1918 rfl dX5_readPart_12 ?_
    refine r_iconst (v := 1) B dX5_readPart_15 (by decide) ?_
    exact r_iret B dX5_readPart_16 h
set_option maxHeartbeats 4000000 in
theorem cw_X5_readPart {X : CX} {fr lo : Nat} (h1 : Nat.ble (4 + 1) fr = true) (h2 : Nat.ble (23 + 86) lo = true) : CW X fr lo yX5_readPart cX5_readPart 4 (some .int) 4 86 0 := ⟨q1923, q136, ⟨by decide +kernel, by decide +kernel, by decide +kernel⟩, Nat.le_of_ble_eq_true h1, Nat.le_of_ble_eq_true h2⟩

set_option maxHeartbeats 4000000 in
noncomputable def F_X5_readPlain (s : St)  : Option (Int32 × St) := bnd (F_X5_isWord s (14836 : Int64)) fun r1 s2 => if r1 = 0 then (bnd (F_X5_isSign s2 (40 : Int32)) fun r5 s6 => if r5 = 0 then (bnd (F_X5_readPart s6) fun r9 s10 => some (r9, s10)) else (bnd (F_X5_openBracket s6 (31 : Int32)) fun _ s13 => some ((0 : Int32), s13))) else (bnd (F_X5_push s2 (28 : Int32) (0 : Int32)) fun _ s16 => bnd (F_X5_next s16) fun _ s19 => some ((0 : Int32), s19))
set_option maxHeartbeats 4000000 in
theorem c_X5_readPlain {l : Launch} {E : EV} (hE : GE E) (hS : ∀ σ, eSk E σ → SkM σ) {s s' : St} {r : Int32}  (h : F_X5_readPlain  s  = some (r, s')) : CT l E yX5_readPlain cX5_readPlain 1 (some .int) 5 109 [vr (some 0)] s (some (vi r)) s' := by
  refine CT.start hE (by decide) rfl [(0, vr (some 0))] rfl (fun X hX B => ?_)
  skip
  have B : FX X E cX5_readPlain 1 (some .int) "RoseThrowModel" "readPlain" (sn s) (ss s) 5 109 := B
  unfold F_X5_readPlain at h
  refine r_aload_n (j := 0) B dX5_readPlain_0 rfl rfl ?_
  refine r_ldc2 B dX5_readPlain_1 q1907 ?_
  obtain ⟨r1, s2, hc3, h⟩ := bnd_e h
  refine r_callVv (As := [vl (14836 : Int64)]) (rest := []) B rfl rfl EX.same (c_X5_isWord B.ge hS hc3) (cw_X5_isWord rfl rfl) (fun z => RV.of 5 ((fun z => by rw [(hS _ z).1 0 (by decide)]; rfl) z) rfl rfl qs69) q1891 q1893 rfl dX5_readPlain_4 ?_
  refine r_if_eq (tgt := 23) B dX5_readPlain_7 (by decide) (fun cn4 => ?_) (fun cn4 => ?_)
  · have h := ot cn4 h
    refine r_aload_n (j := 0) B dX5_readPlain_23 rfl rfl ?_
    refine r_bipush (v := 40) B dX5_readPlain_24 (by decide) ?_
    obtain ⟨r5, s6, hc7, h⟩ := bnd_e h
    refine r_callVv (As := [vi (40 : Int32)]) (rest := []) B rfl rfl EX.same (c_X5_isSign B.ge hS hc7) (cw_X5_isSign rfl rfl) (fun z => RV.of 5 ((fun z => by rw [(hS _ z).1 0 (by decide)]; rfl) z) rfl rfl qs74) q1912 q1914 rfl dX5_readPlain_26 ?_
    refine r_if_eq (tgt := 40) B dX5_readPlain_29 (by decide) (fun cn8 => ?_) (fun cn8 => ?_)
    · have h := ot cn8 h
      refine r_aload_n (j := 0) B dX5_readPlain_40 rfl rfl ?_
      obtain ⟨r9, s10, hc11, h⟩ := bnd_e h
      refine r_callVv (As := []) (rest := []) B rfl rfl EX.same (c_X5_readPart B.ge hS hc11) (cw_X5_readPart rfl rfl) (fun z => RV.of 5 ((fun z => by rw [(hS _ z).1 0 (by decide)]; rfl) z) rfl rfl qs76) q1920 q1922 rfl dX5_readPlain_41 ?_
      exact r_iret B dX5_readPlain_44 h
    · have h := of cn8 h
      refine r_aload_n (j := 0) B dX5_readPlain_32 rfl rfl ?_
      refine r_bipush (v := 31) B dX5_readPlain_33 (by decide) ?_
      obtain ⟨r12, s13, hc14, h⟩ := bnd_e h
      refine r_callV0 (As := [vi (31 : Int32)]) (rest := []) B rfl rfl EX.same (c_X5_openBracket B.ge hS hc14) (cw_X5_openBracket rfl rfl) (fun z => RV.of 5 ((fun z => by rw [(hS _ z).1 0 (by decide)]; rfl) z) rfl rfl qs75) q1916 q1918 rfl dX5_readPlain_35 ?_
      refine r_iconst (v := 0) B dX5_readPlain_38 (by decide) ?_
      exact r_iret B dX5_readPlain_39 h
  · have h := of cn4 h
    refine r_aload_n (j := 0) B dX5_readPlain_10 rfl rfl ?_
    refine r_bipush (v := 28) B dX5_readPlain_11 (by decide) ?_
    refine r_iconst (v := 0) B dX5_readPlain_13 (by decide) ?_
    obtain ⟨r15, s16, hc17, h⟩ := bnd_e h
    refine r_callV0 (As := [vi (28 : Int32), vi (0 : Int32)]) (rest := []) B rfl rfl EX.same (c_X5_push B.ge hS hc17) (cw_X5_push rfl rfl) (fun z => RV.of 5 ((fun z => by rw [(hS _ z).1 0 (by decide)]; rfl) z) rfl rfl qs73) q1908 q1910 rfl dX5_readPlain_14 ?_
    refine r_aload_n (j := 0) B dX5_readPlain_17 rfl rfl ?_
    obtain ⟨r18, s19, hc20, h⟩ := bnd_e h
    refine r_callV0 (As := []) (rest := []) B rfl rfl EX.same (c_X5_next B.ge hS hc20) (cw_X5_next rfl rfl) (fun z => RV.of 5 ((fun z => by rw [(hS _ z).1 0 (by decide)]; rfl) z) rfl rfl qs67) q1872 q1874 rfl dX5_readPlain_18 ?_
    refine r_iconst (v := 0) B dX5_readPlain_21 (by decide) ?_
    exact r_iret B dX5_readPlain_22 h
set_option maxHeartbeats 4000000 in
theorem cw_X5_readPlain {X : CX} {fr lo : Nat} (h1 : Nat.ble (5 + 1) fr = true) (h2 : Nat.ble (20 + 109) lo = true) : CW X fr lo yX5_readPlain cX5_readPlain 1 (some .int) 5 109 0 := ⟨q1906, q136, ⟨by decide +kernel, by decide +kernel, by decide +kernel⟩, Nat.le_of_ble_eq_true h1, Nat.le_of_ble_eq_true h2⟩

set_option maxHeartbeats 4000000 in
noncomputable def F_X5_binds (s : St) (p0 : Int32) : Option (Int32 × St) := if p0 < (31 : Int32) then (if p0 = (30 : Int32) then (some ((1 : Int32), s)) else (if p0 = (29 : Int32) then (some ((2 : Int32), s)) else (if p0 = (28 : Int32) then (some ((3 : Int32), s)) else (if p0 < (25 : Int32) then (if p0 < (22 : Int32) then (some ((5 : Int32), s)) else (some ((6 : Int32), s))) else (some ((4 : Int32), s)))))) else (some ((0 : Int32), s))
set_option maxHeartbeats 4000000 in
theorem c_X5_binds {l : Launch} {E : EV} (hE : GE E) (hS : ∀ σ, eSk E σ → SkM σ) {s s' : St} {r : Int32} {p0 : Int32} (h : F_X5_binds  s p0 = some (r, s')) : CT l E yX5_binds cX5_binds 1 (some .int) 0 0 [vi p0] s (some (vi r)) s' := by
  refine CT.start hE (by decide) rfl [(0, vi p0)] rfl (fun X hX B => ?_)
  skip
  have B : FX X E cX5_binds 1 (some .int) "RoseThrowModel" "binds" (sn s) (ss s) 0 0 := B
  unfold F_X5_binds at h
  refine r_iload_n (j := 0) B dX5_binds_0 rfl rfl ?_
  refine r_bipush (v := 31) B dX5_binds_1 (by decide) ?_
  refine r_ic_lt (tgt := 10) B dX5_binds_3 (by decide) (fun cn1 => ?_) (fun cn1 => ?_)
  · have h := ot cn1 h
    refine r_iload_n (j := 0) B dX5_binds_10 rfl rfl ?_
    refine r_bipush (v := 30) B dX5_binds_11 (by decide) ?_
    refine r_ic_ne (tgt := 20) B dX5_binds_13 (by decide) (fun cn2 => ?_) (fun cn2 => ?_)
    · have h := of cn2 h
      refine r_iload_n (j := 0) B dX5_binds_20 rfl rfl ?_
      refine r_bipush (v := 29) B dX5_binds_21 (by decide) ?_
      refine r_ic_ne (tgt := 30) B dX5_binds_23 (by decide) (fun cn3 => ?_) (fun cn3 => ?_)
      · have h := of cn3 h
        refine r_iload_n (j := 0) B dX5_binds_30 rfl rfl ?_
        refine r_bipush (v := 28) B dX5_binds_31 (by decide) ?_
        refine r_ic_ne (tgt := 40) B dX5_binds_33 (by decide) (fun cn4 => ?_) (fun cn4 => ?_)
        · have h := of cn4 h
          refine r_iload_n (j := 0) B dX5_binds_40 rfl rfl ?_
          refine r_bipush (v := 25) B dX5_binds_41 (by decide) ?_
          refine r_ic_lt (tgt := 50) B dX5_binds_43 (by decide) (fun cn5 => ?_) (fun cn5 => ?_)
          · have h := ot cn5 h
            refine r_iload_n (j := 0) B dX5_binds_50 rfl rfl ?_
            refine r_bipush (v := 22) B dX5_binds_51 (by decide) ?_
            refine r_ic_lt (tgt := 61) B dX5_binds_53 (by decide) (fun cn6 => ?_) (fun cn6 => ?_)
            · have h := ot cn6 h
              refine r_iconst (v := 5) B dX5_binds_61 (by decide) ?_
              exact r_iret B dX5_binds_62 h
            · have h := of cn6 h
              refine r_bipush (v := 6) B dX5_binds_56 (by decide) ?_
              refine r_goto (tgt := 62) B dX5_binds_58 (by decide) ?_
              exact r_iret B dX5_binds_62 h
          · have h := of cn5 h
            refine r_iconst (v := 4) B dX5_binds_46 (by decide) ?_
            refine r_goto (tgt := 62) B dX5_binds_47 (by decide) ?_
            exact r_iret B dX5_binds_62 h
        · have h := ot cn4 h
          refine r_iconst (v := 3) B dX5_binds_36 (by decide) ?_
          refine r_goto (tgt := 62) B dX5_binds_37 (by decide) ?_
          exact r_iret B dX5_binds_62 h
      · have h := ot cn3 h
        refine r_iconst (v := 2) B dX5_binds_26 (by decide) ?_
        refine r_goto (tgt := 62) B dX5_binds_27 (by decide) ?_
        exact r_iret B dX5_binds_62 h
    · have h := ot cn2 h
      refine r_iconst (v := 1) B dX5_binds_16 (by decide) ?_
      refine r_goto (tgt := 62) B dX5_binds_17 (by decide) ?_
      exact r_iret B dX5_binds_62 h
  · have h := of cn1 h
    refine r_iconst (v := 0) B dX5_binds_6 (by decide) ?_
    refine r_goto (tgt := 62) B dX5_binds_7 (by decide) ?_
    exact r_iret B dX5_binds_62 h
set_option maxHeartbeats 4000000 in
theorem cw_X5_binds {X : CX} {fr lo : Nat} (h1 : Nat.ble (0 + 1) fr = true) (h2 : Nat.ble (20 + 0) lo = true) : CW X fr lo yX5_binds cX5_binds 1 (some .int) 0 0 1 := ⟨q1951, q136, ⟨by decide +kernel, by decide +kernel, by decide +kernel⟩, Nat.le_of_ble_eq_true h1, Nat.le_of_ble_eq_true h2⟩

set_option maxHeartbeats 4000000 in
noncomputable def F_X5_settle_63 (k0 : St → Int32 → Option (Unit × St)) (s : St) (x1 : Int32) : Option (Unit × St) := gd (inb (si s 0 30) 400) <| gd (inb (si s 15 (si s 0 30).toNatClampNeg) 400) <| nam (setI s 13 (si s 15 (si s 0 30).toNatClampNeg).toNatClampNeg (si s 0 24)) fun s3 => k0 s3 x1
set_option maxHeartbeats 4000000 in
theorem w_X5_settle_63 {X : CX} {E : EV} {a0 s' : St} {r : Unit} (B : FX X E cX5_settle 2 none "RoseThrowModel" "settle" (sn a0) (ss a0) 1 22) (hS : ∀ σ, eSk E σ → SkM σ) (k0 : St → Int32 → Option (Unit × St)) (hk0 : ∀ (s : St) (x1 : Int32), k0 s x1 = some (r, s') → J X E (sn a0) (ss a0) 2 (QR X E a0 none s') s 0 [(0, vr (some 0)), (1, vi x1)] []) (s : St) (x1 : Int32) (h : F_X5_settle_63  k0 s x1 = some (r, s')) : J X E (sn a0) (ss a0) 2 (QR X E a0 none s') s 63 [(0, vr (some 0)), (1, vi x1)] [] := by
  unfold F_X5_settle_63 at h
  refine r_aload_n (j := 0) B dX5_settle_63 rfl rfl ?_
  refine g5 (k := 26) B (vr (some 13)) rfl (fun z => by rw [(hS _ z).1 0 (by decide)]; rfl) rfl q1543 rfl (fun z => by rw [(hS _ z).2 _ (List.mem_of_getElem? (i := 12) rfl)]; rfl) dX5_settle_64 ?_
  refine r_aload_n (j := 0) B dX5_settle_67 rfl rfl ?_
  refine g5 (k := 29) B (vr (some 15)) rfl (fun z => by rw [(hS _ z).1 0 (by decide)]; rfl) rfl q1546 rfl (fun z => by rw [(hS _ z).2 _ (List.mem_of_getElem? (i := 14) rfl)]; rfl) dX5_settle_68 ?_
  refine r_aload_n (j := 0) B dX5_settle_71 rfl rfl ?_
  refine g5 (k := 30) B (vi (si s 0 30)) rfl (fun z => by rw [(hS _ z).1 0 (by decide)]; rfl) rfl q1547 rfl (fun _ => rfl) dX5_settle_72 ?_
  obtain ⟨hg1, h⟩ := gd_e h
  refine r_iald B rfl (fun z => (hS _ z).1 15 (by decide)) hg1 dX5_settle_75 ?_
  refine r_aload_n (j := 0) B dX5_settle_76 rfl rfl ?_
  refine g5 (k := 24) B (vi (si s 0 24)) rfl (fun z => by rw [(hS _ z).1 0 (by decide)]; rfl) rfl q1541 rfl (fun _ => rfl) dX5_settle_77 ?_
  obtain ⟨hg2, h⟩ := gd_e h
  obtain ⟨s3, e4, h⟩ := nam_e h
  refine r_iast B e4 rfl (fun z => (hS _ z).1 13 (by decide)) hg2 dX5_settle_80 ?_
  refine r_goto (tgt := 0) B dX5_settle_81 (by decide) ?_
  exact hk0 s3 x1 h
set_option maxHeartbeats 4000000 in
noncomputable def F_X5_settle_0 : Nat → St → Int32 → Option (Unit × St)
  | 0 => fun _ _ => none
  | n + 1 => fun s x1 => if (si s 0 30) ≤ 0 then (some ((), s)) else (gd (inb ((si s 0 30) - (1 : Int32)) 400) <| bnd (F_X5_binds s (si s 14 ((si s 0 30) - (1 : Int32)).toNatClampNeg)) fun r3 s4 => if r3 < x1 then (some ((), s4)) else (nam (setI s4 0 30 ((si s4 0 30) - (1 : Int32))) fun s7 => gd (inb (si s7 0 30) 400) <| if (si s7 14 (si s7 0 30).toNatClampNeg) = (29 : Int32) then (F_X5_settle_63 (F_X5_settle_0  n) s7 x1) else (gd (inb (si s7 0 30) 400) <| if (si s7 14 (si s7 0 30).toNatClampNeg) = (30 : Int32) then (F_X5_settle_63 (F_X5_settle_0  n) s7 x1) else (gd (inb (si s7 0 30) 400) <| bnd (F_X5_emit s7 (si s7 14 (si s7 0 30).toNatClampNeg) (0 : Int32)) fun _ s15 => F_X5_settle_0  n s15 x1))))
set_option maxHeartbeats 4000000 in
theorem w_X5_settle_0 {X : CX} {E : EV} {a0 s' : St} {r : Unit} (B : FX X E cX5_settle 2 none "RoseThrowModel" "settle" (sn a0) (ss a0) 1 22) (hS : ∀ σ, eSk E σ → SkM σ) : ∀ (n : Nat) (s : St) (x1 : Int32), F_X5_settle_0   n s x1 = some (r, s') → J X E (sn a0) (ss a0) 2 (QR X E a0 none s') s 0 [(0, vr (some 0)), (1, vi x1)] [] := by
  intro n
  induction n with
  | zero => intro s x1 h; exact absurd (show (none : Option (Unit × St)) = _ from h) (by simp)
  | succ n ih =>
    intro s x1 h
    rw [F_X5_settle_0] at h
    refine r_aload_n (j := 0) B dX5_settle_0 rfl rfl ?_
    refine g5 (k := 30) B (vi (si s 0 30)) rfl (fun z => by rw [(hS _ z).1 0 (by decide)]; rfl) rfl q1547 rfl (fun _ => rfl) dX5_settle_1 ?_
    refine r_if_le (tgt := 101) B dX5_settle_4 (by decide) (fun cn1 => ?_) (fun cn1 => ?_)
    · have h := ot cn1 h
      exact r_vret B dX5_settle_101 h
    · have h := of cn1 h
      refine r_aload_n (j := 0) B dX5_settle_7 rfl rfl ?_
      refine g5 (k := 28) B (vr (some 14)) rfl (fun z => by rw [(hS _ z).1 0 (by decide)]; rfl) rfl q1545 rfl (fun z => by rw [(hS _ z).2 _ (List.mem_of_getElem? (i := 13) rfl)]; rfl) dX5_settle_8 ?_
      refine r_aload_n (j := 0) B dX5_settle_11 rfl rfl ?_
      refine g5 (k := 30) B (vi (si s 0 30)) rfl (fun z => by rw [(hS _ z).1 0 (by decide)]; rfl) rfl q1547 rfl (fun _ => rfl) dX5_settle_12 ?_
      refine r_iconst (v := 1) B dX5_settle_15 (by decide) ?_
      refine r_isub B dX5_settle_16 ?_
      obtain ⟨hg2, h⟩ := gd_e h
      refine r_iald B rfl (fun z => (hS _ z).1 14 (by decide)) hg2 dX5_settle_17 ?_
      obtain ⟨r3, s4, hc5, h⟩ := bnd_e h
      refine r_callSv (As := [vi (si s 14 ((si s 0 30) - (1 : Int32)).toNatClampNeg)]) (rest := []) B rfl EX.same (c_X5_binds B.ge hS hc5) (cw_X5_binds rfl rfl) q1949 q1950 rfl dX5_settle_18 ?_
      refine r_iload_n (j := 1) B dX5_settle_21 rfl rfl ?_
      refine r_ic_lt (tgt := 101) B dX5_settle_22 (by decide) (fun cn6 => ?_) (fun cn6 => ?_)
      · have h := ot cn6 h
        exact r_vret B dX5_settle_101 h
      · have h := of cn6 h
        refine r_aload_n (j := 0) B dX5_settle_25 rfl rfl ?_
        refine r_dup B dX5_settle_26 rfl ?_
        refine g5 (k := 30) B (vi (si s4 0 30)) rfl (fun z => by rw [(hS _ z).1 0 (by decide)]; rfl) rfl q1547 rfl (fun _ => rfl) dX5_settle_27 ?_
        refine r_iconst (v := 1) B dX5_settle_30 (by decide) ?_
        refine r_isub B dX5_settle_31 ?_
        obtain ⟨s7, e8, h⟩ := nam_e h
        refine pI5 (k := 30) B e8 rfl (fun z => by rw [(hS _ z).1 0 (by decide)]; rfl) rfl q1547 rfl rfl (fun _ _ _ => rfl) rfl dX5_settle_32 ?_
        refine r_aload_n (j := 0) B dX5_settle_35 rfl rfl ?_
        refine g5 (k := 28) B (vr (some 14)) rfl (fun z => by rw [(hS _ z).1 0 (by decide)]; rfl) rfl q1545 rfl (fun z => by rw [(hS _ z).2 _ (List.mem_of_getElem? (i := 13) rfl)]; rfl) dX5_settle_36 ?_
        refine r_aload_n (j := 0) B dX5_settle_39 rfl rfl ?_
        refine g5 (k := 30) B (vi (si s7 0 30)) rfl (fun z => by rw [(hS _ z).1 0 (by decide)]; rfl) rfl q1547 rfl (fun _ => rfl) dX5_settle_40 ?_
        obtain ⟨hg9, h⟩ := gd_e h
        refine r_iald B rfl (fun z => (hS _ z).1 14 (by decide)) hg9 dX5_settle_43 ?_
        refine r_bipush (v := 29) B dX5_settle_44 (by decide) ?_
        refine r_ic_eq (tgt := 63) B dX5_settle_46 (by decide) (fun cn10 => ?_) (fun cn10 => ?_)
        · have h := ot cn10 h
          exact w_X5_settle_63 B hS (F_X5_settle_0  n) ih s7 x1 h
        · have h := of cn10 h
          refine r_aload_n (j := 0) B dX5_settle_49 rfl rfl ?_
          refine g5 (k := 28) B (vr (some 14)) rfl (fun z => by rw [(hS _ z).1 0 (by decide)]; rfl) rfl q1545 rfl (fun z => by rw [(hS _ z).2 _ (List.mem_of_getElem? (i := 13) rfl)]; rfl) dX5_settle_50 ?_
          refine r_aload_n (j := 0) B dX5_settle_53 rfl rfl ?_
          refine g5 (k := 30) B (vi (si s7 0 30)) rfl (fun z => by rw [(hS _ z).1 0 (by decide)]; rfl) rfl q1547 rfl (fun _ => rfl) dX5_settle_54 ?_
          obtain ⟨hg11, h⟩ := gd_e h
          refine r_iald B rfl (fun z => (hS _ z).1 14 (by decide)) hg11 dX5_settle_57 ?_
          refine r_bipush (v := 30) B dX5_settle_58 (by decide) ?_
          refine r_ic_ne (tgt := 84) B dX5_settle_60 (by decide) (fun cn12 => ?_) (fun cn12 => ?_)
          · have h := of cn12 h
            refine r_aload_n (j := 0) B dX5_settle_84 rfl rfl ?_
            refine r_aload_n (j := 0) B dX5_settle_85 rfl rfl ?_
            refine g5 (k := 28) B (vr (some 14)) rfl (fun z => by rw [(hS _ z).1 0 (by decide)]; rfl) rfl q1545 rfl (fun z => by rw [(hS _ z).2 _ (List.mem_of_getElem? (i := 13) rfl)]; rfl) dX5_settle_86 ?_
            refine r_aload_n (j := 0) B dX5_settle_89 rfl rfl ?_
            refine g5 (k := 30) B (vi (si s7 0 30)) rfl (fun z => by rw [(hS _ z).1 0 (by decide)]; rfl) rfl q1547 rfl (fun _ => rfl) dX5_settle_90 ?_
            obtain ⟨hg13, h⟩ := gd_e h
            refine r_iald B rfl (fun z => (hS _ z).1 14 (by decide)) hg13 dX5_settle_93 ?_
            refine r_iconst (v := 0) B dX5_settle_94 (by decide) ?_
            obtain ⟨r14, s15, hc16, h⟩ := bnd_e h
            refine r_callV0 (As := [vi (si s7 14 (si s7 0 30).toNatClampNeg), vi (0 : Int32)]) (rest := []) B rfl rfl EX.same (c_X5_emit B.ge hS hc16) (cw_X5_emit rfl rfl) (fun z => RV.of 5 ((fun z => by rw [(hS _ z).1 0 (by decide)]; rfl) z) rfl rfl qs80) q1937 q1939 rfl dX5_settle_95 ?_
            refine r_goto (tgt := 0) B dX5_settle_98 (by decide) ?_
            exact ih s15 x1 h
          · have h := ot cn12 h
            exact w_X5_settle_63 B hS (F_X5_settle_0  n) ih s7 x1 h
set_option maxHeartbeats 4000000 in
noncomputable def F_X5_settle (s : St) (p0 : Int32) : Option (Unit × St) := F_X5_settle_0 FU s p0
set_option maxHeartbeats 4000000 in
theorem c_X5_settle {l : Launch} {E : EV} (hE : GE E) (hS : ∀ σ, eSk E σ → SkM σ) {s s' : St} {r : Unit} {p0 : Int32} (h : F_X5_settle  s p0 = some (r, s')) : CT l E yX5_settle cX5_settle 2 none 1 22 [vr (some 0), vi p0] s none s' := by
  refine CT.start hE (by decide) rfl [(0, vr (some 0)), (1, vi p0)] rfl (fun X hX B => ?_)
  skip
  have B : FX X E cX5_settle 2 none "RoseThrowModel" "settle" (sn s) (ss s) 1 22 := B
  unfold F_X5_settle at h
  exact w_X5_settle_0 B hS FU s p0 h
set_option maxHeartbeats 4000000 in
theorem cw_X5_settle {X : CX} {fr lo : Nat} (h1 : Nat.ble (1 + 1) fr = true) (h2 : Nat.ble (21 + 22) lo = true) : CW X fr lo yX5_settle cX5_settle 2 none 1 22 1 := ⟨q1955, q136, ⟨by decide +kernel, by decide +kernel, by decide +kernel⟩, Nat.le_of_ble_eq_true h1, Nat.le_of_ble_eq_true h2⟩

set_option maxHeartbeats 4000000 in
noncomputable def F_X5_inner_4 : Nat → St → Int32 → Int32 → Option (Int32 × St)
  | 0 => fun _ _ _ => none
  | n + 1 => fun s x1 x2 => if (si s 0 30) ≤ x2 then (some (x1, s)) else (gd (inb x2 400) <| if (si s 14 x2.toNatClampNeg) < (31 : Int32) then (F_X5_inner_4  n s x1 (x2 + (1))) else (gd (inb x2 400) <| F_X5_inner_4  n s (si s 14 x2.toNatClampNeg) (x2 + (1))))
set_option maxHeartbeats 4000000 in
theorem w_X5_inner_4 {X : CX} {E : EV} {a0 s' : St} {r : Int32} (B : FX X E cX5_inner 3 (some .int) "RoseThrowModel" "inner" (sn a0) (ss a0) 0 0) (hS : ∀ σ, eSk E σ → SkM σ) : ∀ (n : Nat) (s : St) (x1 : Int32) (x2 : Int32), F_X5_inner_4   n s x1 x2 = some (r, s') → J X E (sn a0) (ss a0) 3 (QR X E a0 (some (vi r)) s') s 4 [(0, vr (some 0)), (1, vi x1), (2, vi x2)] [] := by
  intro n
  induction n with
  | zero => intro s x1 x2 h; exact absurd (show (none : Option (Int32 × St)) = _ from h) (by simp)
  | succ n ih =>
    intro s x1 x2 h
    rw [F_X5_inner_4] at h
    refine r_iload_n (j := 2) B dX5_inner_4 rfl rfl ?_
    refine r_aload_n (j := 0) B dX5_inner_5 rfl rfl ?_
    refine g5 (k := 30) B (vi (si s 0 30)) rfl (fun z => by rw [(hS _ z).1 0 (by decide)]; rfl) rfl q1547 rfl (fun _ => rfl) dX5_inner_6 ?_
    refine r_ic_ge (tgt := 40) B dX5_inner_9 (by decide) (fun cn1 => ?_) (fun cn1 => ?_)
    · have h := ot cn1 h
      refine r_iload_n (j := 1) B dX5_inner_40 rfl rfl ?_
      exact r_iret B dX5_inner_41 h
    · have h := of cn1 h
      refine r_aload_n (j := 0) B dX5_inner_12 rfl rfl ?_
      refine g5 (k := 28) B (vr (some 14)) rfl (fun z => by rw [(hS _ z).1 0 (by decide)]; rfl) rfl q1545 rfl (fun z => by rw [(hS _ z).2 _ (List.mem_of_getElem? (i := 13) rfl)]; rfl) dX5_inner_13 ?_
      refine r_iload_n (j := 2) B dX5_inner_16 rfl rfl ?_
      obtain ⟨hg2, h⟩ := gd_e h
      refine r_iald B rfl (fun z => (hS _ z).1 14 (by decide)) hg2 dX5_inner_17 ?_
      refine r_bipush (v := 31) B dX5_inner_18 (by decide) ?_
      refine r_ic_lt (tgt := 32) B dX5_inner_20 (by decide) (fun cn3 => ?_) (fun cn3 => ?_)
      · have h := ot cn3 h
        refine r_iload_n (j := 1) B dX5_inner_32 rfl rfl ?_
        refine r_istore_n (L' := [(0, vr (some 0)), (1, vi x1), (2, vi x2)]) B dX5_inner_33 rfl (by decide) rfl rfl rfl ?_
        refine r_iinc (j := 2) (v := (x2 + (1))) (L' := [(0, vr (some 0)), (1, vi x1), (2, vi (x2 + (1)))]) B dX5_inner_34 rfl rfl (by decide) rfl rfl rfl ?_
        refine r_goto (tgt := 4) B dX5_inner_37 (by decide) ?_
        exact ih s x1 (x2 + (1)) h
      · have h := of cn3 h
        refine r_aload_n (j := 0) B dX5_inner_23 rfl rfl ?_
        refine g5 (k := 28) B (vr (some 14)) rfl (fun z => by rw [(hS _ z).1 0 (by decide)]; rfl) rfl q1545 rfl (fun z => by rw [(hS _ z).2 _ (List.mem_of_getElem? (i := 13) rfl)]; rfl) dX5_inner_24 ?_
        refine r_iload_n (j := 2) B dX5_inner_27 rfl rfl ?_
        obtain ⟨hg4, h⟩ := gd_e h
        refine r_iald B rfl (fun z => (hS _ z).1 14 (by decide)) hg4 dX5_inner_28 ?_
        refine r_goto (tgt := 33) B dX5_inner_29 (by decide) ?_
        refine r_istore_n (L' := [(0, vr (some 0)), (1, vi (si s 14 x2.toNatClampNeg)), (2, vi x2)]) B dX5_inner_33 rfl (by decide) rfl rfl rfl ?_
        refine r_iinc (j := 2) (v := (x2 + (1))) (L' := [(0, vr (some 0)), (1, vi (si s 14 x2.toNatClampNeg)), (2, vi (x2 + (1)))]) B dX5_inner_34 rfl rfl (by decide) rfl rfl rfl ?_
        refine r_goto (tgt := 4) B dX5_inner_37 (by decide) ?_
        exact ih s (si s 14 x2.toNatClampNeg) (x2 + (1)) h
set_option maxHeartbeats 4000000 in
noncomputable def F_X5_inner (s : St)  : Option (Int32 × St) := F_X5_inner_4 FU s (-1 : Int32) (0 : Int32)
set_option maxHeartbeats 4000000 in
theorem c_X5_inner {l : Launch} {E : EV} (hE : GE E) (hS : ∀ σ, eSk E σ → SkM σ) {s s' : St} {r : Int32}  (h : F_X5_inner  s  = some (r, s')) : CT l E yX5_inner cX5_inner 3 (some .int) 0 0 [vr (some 0)] s (some (vi r)) s' := by
  refine CT.start hE (by decide) rfl [(0, vr (some 0))] rfl (fun X hX B => ?_)
  skip
  have B : FX X E cX5_inner 3 (some .int) "RoseThrowModel" "inner" (sn s) (ss s) 0 0 := B
  unfold F_X5_inner at h
  refine r_iconst (v := -1) B dX5_inner_0 (by decide) ?_
  refine r_istore_n (L' := [(0, vr (some 0)), (1, vi (-1 : Int32))]) B dX5_inner_1 rfl (by decide) rfl rfl rfl ?_
  refine r_iconst (v := 0) B dX5_inner_2 (by decide) ?_
  refine r_istore_n (L' := [(0, vr (some 0)), (1, vi (-1 : Int32)), (2, vi (0 : Int32))]) B dX5_inner_3 rfl (by decide) rfl rfl rfl ?_
  exact w_X5_inner_4 B hS FU s (-1 : Int32) (0 : Int32) h
set_option maxHeartbeats 4000000 in
theorem cw_X5_inner {X : CX} {fr lo : Nat} (h1 : Nat.ble (0 + 1) fr = true) (h2 : Nat.ble (22 + 0) lo = true) : CW X fr lo yX5_inner cX5_inner 3 (some .int) 0 0 0 := ⟨q1959, q136, ⟨by decide +kernel, by decide +kernel, by decide +kernel⟩, Nat.le_of_ble_eq_true h1, Nat.le_of_ble_eq_true h2⟩

set_option maxHeartbeats 4000000 in
noncomputable def F_X5_isCompared_36 (s : St) (x1 : Int32) : Option (Int32 × St) := if x1 < 0 then (some ((0 : Int32), s)) else (gd (inb x1 400) <| bnd (F_X5_in s (((si s 14 x1.toNatClampNeg)).toInt64) (25 : Int64) (27 : Int64)) fun r3 s4 => if r3 = 0 then (some ((0 : Int32), s4)) else (some ((1 : Int32), s4)))
set_option maxHeartbeats 4000000 in
theorem w_X5_isCompared_36 {X : CX} {E : EV} {a0 s' : St} {r : Int32} (B : FX X E cX5_isCompared 2 (some .boolean) "RoseThrowModel" "isCompared" (sn a0) (ss a0) 1 25) (hS : ∀ σ, eSk E σ → SkM σ) (s : St) (x1 : Int32) (h : F_X5_isCompared_36   s x1 = some (r, s')) : J X E (sn a0) (ss a0) 2 (QR X E a0 (some (vi r)) s') s 36 [(0, vr (some 0)), (1, vi x1)] [] := by
  unfold F_X5_isCompared_36 at h
  refine r_iload_n (j := 1) B dX5_isCompared_36 rfl rfl ?_
  refine r_if_lt (tgt := 63) B dX5_isCompared_37 (by decide) (fun cn1 => ?_) (fun cn1 => ?_)
  · have h := ot cn1 h
    refine r_iconst (v := 0) B dX5_isCompared_63 (by decide) ?_
    exact r_zret B dX5_isCompared_64 (by decide) h
  · have h := of cn1 h
    refine r_aload_n (j := 0) B dX5_isCompared_40 rfl rfl ?_
    refine g5 (k := 28) B (vr (some 14)) rfl (fun z => by rw [(hS _ z).1 0 (by decide)]; rfl) rfl q1545 rfl (fun z => by rw [(hS _ z).2 _ (List.mem_of_getElem? (i := 13) rfl)]; rfl) dX5_isCompared_41 ?_
    refine r_iload_n (j := 1) B dX5_isCompared_44 rfl rfl ?_
    obtain ⟨hg2, h⟩ := gd_e h
    refine r_iald B rfl (fun z => (hS _ z).1 14 (by decide)) hg2 dX5_isCompared_45 ?_
    refine r_i2l B dX5_isCompared_46 ?_
    refine r_ldc2 B dX5_isCompared_47 q1506 ?_
    refine r_ldc2 B dX5_isCompared_50 q1965 ?_
    obtain ⟨r3, s4, hc5, h⟩ := bnd_e h
    refine r_callSv (As := [vl (((si s 14 x1.toNatClampNeg)).toInt64), vl (25 : Int64), vl (27 : Int64)]) (rest := []) B rfl EX.same (c_X5_in B.ge hS hc5) (cw_X5_in rfl rfl) q1740 q1741 rfl dX5_isCompared_53 ?_
    refine r_if_eq (tgt := 63) B dX5_isCompared_56 (by decide) (fun cn6 => ?_) (fun cn6 => ?_)
    · have h := ot cn6 h
      refine r_iconst (v := 0) B dX5_isCompared_63 (by decide) ?_
      exact r_zret B dX5_isCompared_64 (by decide) h
    · have h := of cn6 h
      refine r_iconst (v := 1) B dX5_isCompared_59 (by decide) ?_
      refine r_goto (tgt := 64) B dX5_isCompared_60 (by decide) ?_
      exact r_zret B dX5_isCompared_64 (by decide) h
set_option maxHeartbeats 4000000 in
noncomputable def F_X5_isCompared_7 : Nat → St → Int32 → Option (Int32 × St)
  | 0 => fun _ _ => none
  | n + 1 => fun s x1 => if x1 < 0 then (F_X5_isCompared_36 s x1) else (gd (inb x1 400) <| bnd (F_X5_in s (((si s 14 x1.toNatClampNeg)).toInt64) (20 : Int64) (24 : Int64)) fun r3 s4 => if r3 = 0 then (F_X5_isCompared_36 s4 x1) else (F_X5_isCompared_7  n s4 (x1 + (-1))))
set_option maxHeartbeats 4000000 in
theorem w_X5_isCompared_7 {X : CX} {E : EV} {a0 s' : St} {r : Int32} (B : FX X E cX5_isCompared 2 (some .boolean) "RoseThrowModel" "isCompared" (sn a0) (ss a0) 1 25) (hS : ∀ σ, eSk E σ → SkM σ) : ∀ (n : Nat) (s : St) (x1 : Int32), F_X5_isCompared_7   n s x1 = some (r, s') → J X E (sn a0) (ss a0) 2 (QR X E a0 (some (vi r)) s') s 7 [(0, vr (some 0)), (1, vi x1)] [] := by
  intro n
  induction n with
  | zero => intro s x1 h; exact absurd (show (none : Option (Int32 × St)) = _ from h) (by simp)
  | succ n ih =>
    intro s x1 h
    rw [F_X5_isCompared_7] at h
    refine r_iload_n (j := 1) B dX5_isCompared_7 rfl rfl ?_
    refine r_if_lt (tgt := 36) B dX5_isCompared_8 (by decide) (fun cn1 => ?_) (fun cn1 => ?_)
    · have h := ot cn1 h
      exact w_X5_isCompared_36 B hS s x1 h
    · have h := of cn1 h
      refine r_aload_n (j := 0) B dX5_isCompared_11 rfl rfl ?_
      refine g5 (k := 28) B (vr (some 14)) rfl (fun z => by rw [(hS _ z).1 0 (by decide)]; rfl) rfl q1545 rfl (fun z => by rw [(hS _ z).2 _ (List.mem_of_getElem? (i := 13) rfl)]; rfl) dX5_isCompared_12 ?_
      refine r_iload_n (j := 1) B dX5_isCompared_15 rfl rfl ?_
      obtain ⟨hg2, h⟩ := gd_e h
      refine r_iald B rfl (fun z => (hS _ z).1 14 (by decide)) hg2 dX5_isCompared_16 ?_
      refine r_i2l B dX5_isCompared_17 ?_
      refine r_ldc2 B dX5_isCompared_18 q1964 ?_
      refine r_ldc2 B dX5_isCompared_21 q1505 ?_
      obtain ⟨r3, s4, hc5, h⟩ := bnd_e h
      refine r_callSv (As := [vl (((si s 14 x1.toNatClampNeg)).toInt64), vl (20 : Int64), vl (24 : Int64)]) (rest := []) B rfl EX.same (c_X5_in B.ge hS hc5) (cw_X5_in rfl rfl) q1740 q1741 rfl dX5_isCompared_24 ?_
      refine r_if_eq (tgt := 36) B dX5_isCompared_27 (by decide) (fun cn6 => ?_) (fun cn6 => ?_)
      · have h := ot cn6 h
        exact w_X5_isCompared_36 B hS s4 x1 h
      · have h := of cn6 h
        refine r_iinc (j := 1) (v := (x1 + (-1))) (L' := [(0, vr (some 0)), (1, vi (x1 + (-1)))]) B dX5_isCompared_30 rfl rfl (by decide) rfl rfl rfl ?_
        refine r_goto (tgt := 7) B dX5_isCompared_33 (by decide) ?_
        exact ih s4 (x1 + (-1)) h
set_option maxHeartbeats 4000000 in
noncomputable def F_X5_isCompared (s : St)  : Option (Int32 × St) := F_X5_isCompared_7 FU s ((si s 0 30) - (1 : Int32))
set_option maxHeartbeats 4000000 in
theorem c_X5_isCompared {l : Launch} {E : EV} (hE : GE E) (hS : ∀ σ, eSk E σ → SkM σ) {s s' : St} {r : Int32}  (h : F_X5_isCompared  s  = some (r, s')) : CT l E yX5_isCompared cX5_isCompared 2 (some .boolean) 1 25 [vr (some 0)] s (some (vi r)) s' := by
  refine CT.start hE (by decide) rfl [(0, vr (some 0))] rfl (fun X hX B => ?_)
  skip
  have B : FX X E cX5_isCompared 2 (some .boolean) "RoseThrowModel" "isCompared" (sn s) (ss s) 1 25 := B
  unfold F_X5_isCompared at h
  refine r_aload_n (j := 0) B dX5_isCompared_0 rfl rfl ?_
  refine g5 (k := 30) B (vi (si s 0 30)) rfl (fun z => by rw [(hS _ z).1 0 (by decide)]; rfl) rfl q1547 rfl (fun _ => rfl) dX5_isCompared_1 ?_
  refine r_iconst (v := 1) B dX5_isCompared_4 (by decide) ?_
  refine r_isub B dX5_isCompared_5 ?_
  refine r_istore_n (L' := [(0, vr (some 0)), (1, vi ((si s 0 30) - (1 : Int32)))]) B dX5_isCompared_6 rfl (by decide) rfl rfl rfl ?_
  exact w_X5_isCompared_7 B hS FU s ((si s 0 30) - (1 : Int32)) h
set_option maxHeartbeats 4000000 in
theorem cw_X5_isCompared {X : CX} {fr lo : Nat} (h1 : Nat.ble (1 + 1) fr = true) (h2 : Nat.ble (21 + 25) lo = true) : CW X fr lo yX5_isCompared cX5_isCompared 2 (some .boolean) 1 25 0 := ⟨q1963, q136, ⟨by decide +kernel, by decide +kernel, by decide +kernel⟩, Nat.le_of_ble_eq_true h1, Nat.le_of_ble_eq_true h2⟩

set_option maxHeartbeats 4000000 in
noncomputable def F_X5_behindSum_224 (s : St) (x2 : Int32) (z0 : Int32) : Option (Int32 × St) := bnd (F_X5_must s z0) fun _ s2 => if (si s2 0 20) = 0 then (bnd (F_X5_settle s2 (5 : Int32)) fun _ s6 => bnd (F_X5_push s6 x2 (0 : Int32)) fun _ s9 => some ((1 : Int32), s9)) else (some ((1 : Int32), s2))
set_option maxHeartbeats 4000000 in
theorem w_X5_behindSum_224 {X : CX} {E : EV} {a0 s' : St} {r : Int32} (B : FX X E cX5_behindSum 4 (some .int) "RoseThrowModel" "behindSum" (sn a0) (ss a0) 3 61) (hS : ∀ σ, eSk E σ → SkM σ) (s : St) (x2 : Int32) (z0 : Int32) (h : F_X5_behindSum_224   s x2 z0 = some (r, s')) : J X E (sn a0) (ss a0) 4 (QR X E a0 (some (vi r)) s') s 224 [(0, vr (some 0)), (2, vi x2)] [vi z0, vr (some 0)] := by
  unfold F_X5_behindSum_224 at h
  obtain ⟨r1, s2, hc3, h⟩ := bnd_e h
  refine r_callV0 (As := [vi z0]) (rest := []) B rfl rfl EX.same (c_X5_must B.ge hS hc3) (cw_X5_must rfl rfl) (fun z => RV.of 5 ((fun z => by rw [(hS _ z).1 0 (by decide)]; rfl) z) rfl rfl qs70) q1895 q1897 rfl dX5_behindSum_224 ?_
  refine r_aload_n (j := 0) B dX5_behindSum_227 rfl rfl ?_
  refine g5 (k := 20) B (vi (si s2 0 20)) rfl (fun z => by rw [(hS _ z).1 0 (by decide)]; rfl) rfl q1537 rfl (fun _ => rfl) dX5_behindSum_228 ?_
  refine r_if_ne (tgt := 245) B dX5_behindSum_231 (by decide) (fun cn4 => ?_) (fun cn4 => ?_)
  · have h := of cn4 h
    refine r_iconst (v := 1) B dX5_behindSum_245 (by decide) ?_
    exact r_iret B dX5_behindSum_246 h
  · have h := ot cn4 h
    refine r_aload_n (j := 0) B dX5_behindSum_234 rfl rfl ?_
    refine r_iconst (v := 5) B dX5_behindSum_235 (by decide) ?_
    obtain ⟨r5, s6, hc7, h⟩ := bnd_e h
    refine r_callV0 (As := [vi (5 : Int32)]) (rest := []) B rfl rfl EX.same (c_X5_settle B.ge hS hc7) (cw_X5_settle rfl rfl) (fun z => RV.of 5 ((fun z => by rw [(hS _ z).1 0 (by decide)]; rfl) z) rfl rfl qs83) q1952 q1954 rfl dX5_behindSum_236 ?_
    refine r_aload_n (j := 0) B dX5_behindSum_239 rfl rfl ?_
    refine r_iload_n (j := 1) B dX5_behindSum_240 rfl rfl ?_
    refine r_iconst (v := 0) B dX5_behindSum_241 (by decide) ?_
    obtain ⟨r8, s9, hc10, h⟩ := bnd_e h
    refine r_callV0 (As := [vi x2, vi (0 : Int32)]) (rest := []) B rfl rfl EX.same (c_X5_push B.ge hS hc10) (cw_X5_push rfl rfl) (fun z => RV.of 5 ((fun z => by rw [(hS _ z).1 0 (by decide)]; rfl) z) rfl rfl qs73) q1908 q1910 rfl dX5_behindSum_242 ?_
    refine r_iconst (v := 1) B dX5_behindSum_245 (by decide) ?_
    exact r_iret B dX5_behindSum_246 h
set_option maxHeartbeats 4000000 in
noncomputable def F_X5_behindSum_219 (s : St) (x2 : Int32) : Option (Int32 × St) := F_X5_behindSum_224 s x2 (1 : Int32)
set_option maxHeartbeats 4000000 in
theorem w_X5_behindSum_219 {X : CX} {E : EV} {a0 s' : St} {r : Int32} (B : FX X E cX5_behindSum 4 (some .int) "RoseThrowModel" "behindSum" (sn a0) (ss a0) 3 61) (hS : ∀ σ, eSk E σ → SkM σ) (s : St) (x2 : Int32) (h : F_X5_behindSum_219   s x2 = some (r, s')) : J X E (sn a0) (ss a0) 4 (QR X E a0 (some (vi r)) s') s 219 [(0, vr (some 0)), (2, vi x2)] [vr (some 0)] := by
  unfold F_X5_behindSum_219 at h
  refine r_iconst (v := 1) B dX5_behindSum_219 (by decide) ?_
  refine r_goto (tgt := 224) B dX5_behindSum_220 (by decide) ?_
  exact w_X5_behindSum_224 B hS s x2 (1 : Int32) h
set_option maxHeartbeats 4000000 in
noncomputable def F_X5_behindSum_202 (s : St) (z0 : Int32) : Option (Int32 × St) := if z0 = (27 : Int32) then (bnd (F_X5_isSign s (61 : Int32)) fun r2 s3 => if r2 = 0 then (F_X5_behindSum_224 s3 z0 (0 : Int32)) else (F_X5_behindSum_219 s3 z0)) else (F_X5_behindSum_219 s z0)
set_option maxHeartbeats 4000000 in
theorem w_X5_behindSum_202 {X : CX} {E : EV} {a0 s' : St} {r : Int32} (B : FX X E cX5_behindSum 4 (some .int) "RoseThrowModel" "behindSum" (sn a0) (ss a0) 3 61) (hS : ∀ σ, eSk E σ → SkM σ) (s : St) (z0 : Int32) (h : F_X5_behindSum_202   s z0 = some (r, s')) : J X E (sn a0) (ss a0) 4 (QR X E a0 (some (vi r)) s') s 202 [(0, vr (some 0))] [vi z0] := by
  unfold F_X5_behindSum_202 at h
  refine r_istore_n (L' := [(0, vr (some 0)), (2, vi z0)]) B dX5_behindSum_202 rfl (by decide) rfl rfl rfl ?_
  refine r_aload_n (j := 0) B dX5_behindSum_203 rfl rfl ?_
  refine r_iload_n (j := 1) B dX5_behindSum_204 rfl rfl ?_
  refine r_bipush (v := 27) B dX5_behindSum_205 (by decide) ?_
  refine r_ic_ne (tgt := 219) B dX5_behindSum_207 (by decide) (fun cn1 => ?_) (fun cn1 => ?_)
  · have h := of cn1 h
    exact w_X5_behindSum_219 B hS s z0 h
  · have h := ot cn1 h
    refine r_aload_n (j := 0) B dX5_behindSum_210 rfl rfl ?_
    refine r_bipush (v := 61) B dX5_behindSum_211 (by decide) ?_
    obtain ⟨r2, s3, hc4, h⟩ := bnd_e h
    refine r_callVv (As := [vi (61 : Int32)]) (rest := [vr (some 0)]) B rfl rfl EX.same (c_X5_isSign B.ge hS hc4) (cw_X5_isSign rfl rfl) (fun z => RV.of 5 ((fun z => by rw [(hS _ z).1 0 (by decide)]; rfl) z) rfl rfl qs74) q1912 q1914 rfl dX5_behindSum_213 ?_
    refine r_if_eq (tgt := 223) B dX5_behindSum_216 (by decide) (fun cn5 => ?_) (fun cn5 => ?_)
    · have h := ot cn5 h
      refine r_iconst (v := 0) B dX5_behindSum_223 (by decide) ?_
      exact w_X5_behindSum_224 B hS s3 z0 (0 : Int32) h
    · have h := of cn5 h
      exact w_X5_behindSum_219 B hS s3 z0 h
set_option maxHeartbeats 4000000 in
noncomputable def F_X5_behindSum_163 (s : St)  : Option (Int32 × St) := bnd (F_X5_isCompared s) fun r1 s2 => if r1 = 0 then (bnd (F_X5_isSign s2 (60 : Int32)) fun r5 s6 => if r5 = 0 then (bnd (F_X5_isSign s6 (62 : Int32)) fun r9 s10 => if r9 = 0 then (F_X5_behindSum_202 s10 (27 : Int32)) else (F_X5_behindSum_202 s10 (26 : Int32))) else (F_X5_behindSum_202 s6 (25 : Int32))) else (some ((2 : Int32), s2))
set_option maxHeartbeats 4000000 in
theorem w_X5_behindSum_163 {X : CX} {E : EV} {a0 s' : St} {r : Int32} (B : FX X E cX5_behindSum 4 (some .int) "RoseThrowModel" "behindSum" (sn a0) (ss a0) 3 61) (hS : ∀ σ, eSk E σ → SkM σ) (s : St)  (h : F_X5_behindSum_163   s  = some (r, s')) : J X E (sn a0) (ss a0) 4 (QR X E a0 (some (vi r)) s') s 163 [(0, vr (some 0))] [] := by
  unfold F_X5_behindSum_163 at h
  refine r_aload_n (j := 0) B dX5_behindSum_163 rfl rfl ?_
  obtain ⟨r1, s2, hc3, h⟩ := bnd_e h
  refine r_callVv (As := []) (rest := []) B rfl rfl EX.same (c_X5_isCompared B.ge hS hc3) (cw_X5_isCompared rfl rfl) (fun z => RV.of 5 ((fun z => by rw [(hS _ z).1 0 (by decide)]; rfl) z) rfl rfl qs85) q1960 q1962 rfl dX5_behindSum_164 ?_
  refine r_if_eq (tgt := 172) B dX5_behindSum_167 (by decide) (fun cn4 => ?_) (fun cn4 => ?_)
  · have h := ot cn4 h
    refine r_aload_n (j := 0) B dX5_behindSum_172 rfl rfl ?_
    refine r_bipush (v := 60) B dX5_behindSum_173 (by decide) ?_
    obtain ⟨r5, s6, hc7, h⟩ := bnd_e h
    refine r_callVv (As := [vi (60 : Int32)]) (rest := []) B rfl rfl EX.same (c_X5_isSign B.ge hS hc7) (cw_X5_isSign rfl rfl) (fun z => RV.of 5 ((fun z => by rw [(hS _ z).1 0 (by decide)]; rfl) z) rfl rfl qs74) q1912 q1914 rfl dX5_behindSum_175 ?_
    refine r_if_eq (tgt := 186) B dX5_behindSum_178 (by decide) (fun cn8 => ?_) (fun cn8 => ?_)
    · have h := ot cn8 h
      refine r_aload_n (j := 0) B dX5_behindSum_186 rfl rfl ?_
      refine r_bipush (v := 62) B dX5_behindSum_187 (by decide) ?_
      obtain ⟨r9, s10, hc11, h⟩ := bnd_e h
      refine r_callVv (As := [vi (62 : Int32)]) (rest := []) B rfl rfl EX.same (c_X5_isSign B.ge hS hc11) (cw_X5_isSign rfl rfl) (fun z => RV.of 5 ((fun z => by rw [(hS _ z).1 0 (by decide)]; rfl) z) rfl rfl qs74) q1912 q1914 rfl dX5_behindSum_189 ?_
      refine r_if_eq (tgt := 200) B dX5_behindSum_192 (by decide) (fun cn12 => ?_) (fun cn12 => ?_)
      · have h := ot cn12 h
        refine r_bipush (v := 27) B dX5_behindSum_200 (by decide) ?_
        exact w_X5_behindSum_202 B hS s10 (27 : Int32) h
      · have h := of cn12 h
        refine r_bipush (v := 26) B dX5_behindSum_195 (by decide) ?_
        refine r_goto (tgt := 202) B dX5_behindSum_197 (by decide) ?_
        exact w_X5_behindSum_202 B hS s10 (26 : Int32) h
    · have h := of cn8 h
      refine r_bipush (v := 25) B dX5_behindSum_181 (by decide) ?_
      refine r_goto (tgt := 202) B dX5_behindSum_183 (by decide) ?_
      exact w_X5_behindSum_202 B hS s6 (25 : Int32) h
  · have h := of cn4 h
    refine r_iconst (v := 2) B dX5_behindSum_170 (by decide) ?_
    exact r_iret B dX5_behindSum_171 h
set_option maxHeartbeats 4000000 in
noncomputable def F_X5_behindSum_71 (s : St) (x1 : Int32) (z0 : Int32) : Option (Int32 × St) := if z0 = (-1 : Int32) then (bnd (F_X5_inner s) fun r2 s3 => if r2 = (32 : Int32) then (bnd (F_X5_isSign s3 (93 : Int32)) fun r8 s9 => bnd (F_X5_must s9 r8) fun _ s12 => if (si s12 0 20) = 0 then (bnd (F_X5_settle s12 (5 : Int32)) fun _ s16 => nam (setI s16 0 30 ((si s16 0 30) - (1 : Int32))) fun s18 => nam (setI s18 0 31 ((si s18 0 31) - (1 : Int32))) fun s20 => some ((3 : Int32), s20)) else (some ((3 : Int32), s12))) else (if r2 = (-1 : Int32) then (if x1 = 0 then (some ((4 : Int32), s3)) else (F_X5_behindSum_163 s3)) else (F_X5_behindSum_163 s3))) else (bnd (F_X5_binds s z0) fun r22 s23 => bnd (F_X5_settle s23 r22) fun _ s26 => bnd (F_X5_push s26 z0 (0 : Int32)) fun _ s29 => bnd (F_X5_next s29) fun _ s32 => some ((1 : Int32), s32))
set_option maxHeartbeats 4000000 in
theorem w_X5_behindSum_71 {X : CX} {E : EV} {a0 s' : St} {r : Int32} (B : FX X E cX5_behindSum 4 (some .int) "RoseThrowModel" "behindSum" (sn a0) (ss a0) 3 61) (hS : ∀ σ, eSk E σ → SkM σ) (s : St) (x1 : Int32) (z0 : Int32) (h : F_X5_behindSum_71   s x1 z0 = some (r, s')) : J X E (sn a0) (ss a0) 4 (QR X E a0 (some (vi r)) s') s 71 [(0, vr (some 0)), (1, vi x1)] [vi z0] := by
  unfold F_X5_behindSum_71 at h
  refine r_istore_n (L' := [(0, vr (some 0)), (1, vi x1), (2, vi z0)]) B dX5_behindSum_71 rfl (by decide) rfl rfl rfl ?_
  refine r_iload_n (j := 2) B dX5_behindSum_72 rfl rfl ?_
  refine r_iconst (v := -1) B dX5_behindSum_73 (by decide) ?_
  refine r_ic_eq (tgt := 97) B dX5_behindSum_74 (by decide) (fun cn1 => ?_) (fun cn1 => ?_)
  · have h := ot cn1 h
    refine r_aload_n (j := 0) B dX5_behindSum_97 rfl rfl ?_
    obtain ⟨r2, s3, hc4, h⟩ := bnd_e h
    refine r_callVv (As := []) (rest := []) B rfl rfl EX.same (c_X5_inner B.ge hS hc4) (cw_X5_inner rfl rfl) (fun z => RV.of 5 ((fun z => by rw [(hS _ z).1 0 (by decide)]; rfl) z) rfl rfl qs84) q1956 q1958 rfl dX5_behindSum_98 ?_
    refine r_istore_n (L' := [(0, vr (some 0)), (1, vi x1), (2, vi z0), (3, vi r2)]) B dX5_behindSum_101 rfl (by decide) rfl rfl rfl ?_
    refine r_iload_n (j := 3) B dX5_behindSum_102 rfl rfl ?_
    refine r_bipush (v := 32) B dX5_behindSum_103 (by decide) ?_
    refine r_ic_ne (tgt := 152) B dX5_behindSum_105 (by decide) (fun cn5 => ?_) (fun cn5 => ?_)
    · have h := of cn5 h
      refine r_iload_n (j := 3) B dX5_behindSum_152 rfl rfl ?_
      refine r_iconst (v := -1) B dX5_behindSum_153 (by decide) ?_
      refine r_ic_ne (tgt := 163) B dX5_behindSum_154 (by decide) (fun cn6 => ?_) (fun cn6 => ?_)
      · have h := of cn6 h
        refine r_pick [0] (L' := [(0, vr (some 0))]) rfl ?_
        exact w_X5_behindSum_163 B hS s3 h
      · have h := ot cn6 h
        refine r_iload_n (j := 1) B dX5_behindSum_157 rfl rfl ?_
        refine r_if_ne (tgt := 163) B dX5_behindSum_158 (by decide) (fun cn7 => ?_) (fun cn7 => ?_)
        · have h := of cn7 h
          refine r_pick [0] (L' := [(0, vr (some 0))]) rfl ?_
          exact w_X5_behindSum_163 B hS s3 h
        · have h := ot cn7 h
          refine r_iconst (v := 4) B dX5_behindSum_161 (by decide) ?_
          exact r_iret B dX5_behindSum_162 h
    · have h := ot cn5 h
      refine r_aload_n (j := 0) B dX5_behindSum_108 rfl rfl ?_
      refine r_aload_n (j := 0) B dX5_behindSum_109 rfl rfl ?_
      refine r_bipush (v := 93) B dX5_behindSum_110 (by decide) ?_
      obtain ⟨r8, s9, hc10, h⟩ := bnd_e h
      refine r_callVv (As := [vi (93 : Int32)]) (rest := [vr (some 0)]) B rfl rfl EX.same (c_X5_isSign B.ge hS hc10) (cw_X5_isSign rfl rfl) (fun z => RV.of 5 ((fun z => by rw [(hS _ z).1 0 (by decide)]; rfl) z) rfl rfl qs74) q1912 q1914 rfl dX5_behindSum_112 ?_
      obtain ⟨r11, s12, hc13, h⟩ := bnd_e h
      refine r_callV0 (As := [vi r8]) (rest := []) B rfl rfl EX.same (c_X5_must B.ge hS hc13) (cw_X5_must rfl rfl) (fun z => RV.of 5 ((fun z => by rw [(hS _ z).1 0 (by decide)]; rfl) z) rfl rfl qs70) q1895 q1897 rfl dX5_behindSum_115 ?_
      refine r_aload_n (j := 0) B dX5_behindSum_118 rfl rfl ?_
      refine g5 (k := 20) B (vi (si s12 0 20)) rfl (fun z => by rw [(hS _ z).1 0 (by decide)]; rfl) rfl q1537 rfl (fun _ => rfl) dX5_behindSum_119 ?_
      refine r_if_ne (tgt := 150) B dX5_behindSum_122 (by decide) (fun cn14 => ?_) (fun cn14 => ?_)
      · have h := of cn14 h
        refine r_iconst (v := 3) B dX5_behindSum_150 (by decide) ?_
        exact r_iret B dX5_behindSum_151 h
      · have h := ot cn14 h
        refine r_aload_n (j := 0) B dX5_behindSum_125 rfl rfl ?_
        refine r_iconst (v := 5) B dX5_behindSum_126 (by decide) ?_
        obtain ⟨r15, s16, hc17, h⟩ := bnd_e h
        refine r_callV0 (As := [vi (5 : Int32)]) (rest := []) B rfl rfl EX.same (c_X5_settle B.ge hS hc17) (cw_X5_settle rfl rfl) (fun z => RV.of 5 ((fun z => by rw [(hS _ z).1 0 (by decide)]; rfl) z) rfl rfl qs83) q1952 q1954 rfl dX5_behindSum_127 ?_
        refine r_aload_n (j := 0) B dX5_behindSum_130 rfl rfl ?_
        refine r_dup B dX5_behindSum_131 rfl ?_
        refine g5 (k := 30) B (vi (si s16 0 30)) rfl (fun z => by rw [(hS _ z).1 0 (by decide)]; rfl) rfl q1547 rfl (fun _ => rfl) dX5_behindSum_132 ?_
        refine r_iconst (v := 1) B dX5_behindSum_135 (by decide) ?_
        refine r_isub B dX5_behindSum_136 ?_
        obtain ⟨s18, e19, h⟩ := nam_e h
        refine pI5 (k := 30) B e19 rfl (fun z => by rw [(hS _ z).1 0 (by decide)]; rfl) rfl q1547 rfl rfl (fun _ _ _ => rfl) rfl dX5_behindSum_137 ?_
        refine r_aload_n (j := 0) B dX5_behindSum_140 rfl rfl ?_
        refine r_dup B dX5_behindSum_141 rfl ?_
        refine g5 (k := 31) B (vi (si s18 0 31)) rfl (fun z => by rw [(hS _ z).1 0 (by decide)]; rfl) rfl q1548 rfl (fun _ => rfl) dX5_behindSum_142 ?_
        refine r_iconst (v := 1) B dX5_behindSum_145 (by decide) ?_
        refine r_isub B dX5_behindSum_146 ?_
        obtain ⟨s20, e21, h⟩ := nam_e h
        refine pI5 (k := 31) B e21 rfl (fun z => by rw [(hS _ z).1 0 (by decide)]; rfl) rfl q1548 rfl rfl (fun _ _ _ => rfl) rfl dX5_behindSum_147 ?_
        refine r_iconst (v := 3) B dX5_behindSum_150 (by decide) ?_
        exact r_iret B dX5_behindSum_151 h
  · have h := of cn1 h
    refine r_aload_n (j := 0) B dX5_behindSum_77 rfl rfl ?_
    refine r_iload_n (j := 2) B dX5_behindSum_78 rfl rfl ?_
    obtain ⟨r22, s23, hc24, h⟩ := bnd_e h
    refine r_callSv (As := [vi z0]) (rest := [vr (some 0)]) B rfl EX.same (c_X5_binds B.ge hS hc24) (cw_X5_binds rfl rfl) q1949 q1950 rfl dX5_behindSum_79 ?_
    obtain ⟨r25, s26, hc27, h⟩ := bnd_e h
    refine r_callV0 (As := [vi r22]) (rest := []) B rfl rfl EX.same (c_X5_settle B.ge hS hc27) (cw_X5_settle rfl rfl) (fun z => RV.of 5 ((fun z => by rw [(hS _ z).1 0 (by decide)]; rfl) z) rfl rfl qs83) q1952 q1954 rfl dX5_behindSum_82 ?_
    refine r_aload_n (j := 0) B dX5_behindSum_85 rfl rfl ?_
    refine r_iload_n (j := 2) B dX5_behindSum_86 rfl rfl ?_
    refine r_iconst (v := 0) B dX5_behindSum_87 (by decide) ?_
    obtain ⟨r28, s29, hc30, h⟩ := bnd_e h
    refine r_callV0 (As := [vi z0, vi (0 : Int32)]) (rest := []) B rfl rfl EX.same (c_X5_push B.ge hS hc30) (cw_X5_push rfl rfl) (fun z => RV.of 5 ((fun z => by rw [(hS _ z).1 0 (by decide)]; rfl) z) rfl rfl qs73) q1908 q1910 rfl dX5_behindSum_88 ?_
    refine r_aload_n (j := 0) B dX5_behindSum_91 rfl rfl ?_
    obtain ⟨r31, s32, hc33, h⟩ := bnd_e h
    refine r_callV0 (As := []) (rest := []) B rfl rfl EX.same (c_X5_next B.ge hS hc33) (cw_X5_next rfl rfl) (fun z => RV.of 5 ((fun z => by rw [(hS _ z).1 0 (by decide)]; rfl) z) rfl rfl qs67) q1872 q1874 rfl dX5_behindSum_92 ?_
    refine r_iconst (v := 1) B dX5_behindSum_95 (by decide) ?_
    exact r_iret B dX5_behindSum_96 h
set_option maxHeartbeats 4000000 in
noncomputable def F_X5_behindSum (s : St) (p0 : Int32) : Option (Int32 × St) := bnd (F_X5_isSign s (43 : Int32)) fun r1 s2 => if r1 = 0 then (bnd (F_X5_isSign s2 (45 : Int32)) fun r5 s6 => if r5 = 0 then (bnd (F_X5_isSign s6 (42 : Int32)) fun r9 s10 => if r9 = 0 then (bnd (F_X5_isSign s10 (47 : Int32)) fun r13 s14 => if r13 = 0 then (bnd (F_X5_isSign s14 (37 : Int32)) fun r17 s18 => if r17 = 0 then (F_X5_behindSum_71 s18 p0 (-1 : Int32)) else (F_X5_behindSum_71 s18 p0 (24 : Int32))) else (F_X5_behindSum_71 s14 p0 (23 : Int32))) else (F_X5_behindSum_71 s10 p0 (22 : Int32))) else (F_X5_behindSum_71 s6 p0 (21 : Int32))) else (F_X5_behindSum_71 s2 p0 (20 : Int32))
set_option maxHeartbeats 4000000 in
theorem c_X5_behindSum {l : Launch} {E : EV} (hE : GE E) (hS : ∀ σ, eSk E σ → SkM σ) {s s' : St} {r : Int32} {p0 : Int32} (h : F_X5_behindSum  s p0 = some (r, s')) : CT l E yX5_behindSum cX5_behindSum 4 (some .int) 3 61 [vr (some 0), vi p0] s (some (vi r)) s' := by
  refine CT.start hE (by decide) rfl [(0, vr (some 0)), (1, vi p0)] rfl (fun X hX B => ?_)
  skip
  have B : FX X E cX5_behindSum 4 (some .int) "RoseThrowModel" "behindSum" (sn s) (ss s) 3 61 := B
  unfold F_X5_behindSum at h
  refine r_aload_n (j := 0) B dX5_behindSum_0 rfl rfl ?_
  refine r_bipush (v := 43) B dX5_behindSum_1 (by decide) ?_
  obtain ⟨r1, s2, hc3, h⟩ := bnd_e h
  refine r_callVv (As := [vi (43 : Int32)]) (rest := []) B rfl rfl EX.same (c_X5_isSign B.ge hS hc3) (cw_X5_isSign rfl rfl) (fun z => RV.of 5 ((fun z => by rw [(hS _ z).1 0 (by decide)]; rfl) z) rfl rfl qs74) q1912 q1914 rfl dX5_behindSum_3 ?_
  refine r_if_eq (tgt := 14) B dX5_behindSum_6 (by decide) (fun cn4 => ?_) (fun cn4 => ?_)
  · have h := ot cn4 h
    refine r_aload_n (j := 0) B dX5_behindSum_14 rfl rfl ?_
    refine r_bipush (v := 45) B dX5_behindSum_15 (by decide) ?_
    obtain ⟨r5, s6, hc7, h⟩ := bnd_e h
    refine r_callVv (As := [vi (45 : Int32)]) (rest := []) B rfl rfl EX.same (c_X5_isSign B.ge hS hc7) (cw_X5_isSign rfl rfl) (fun z => RV.of 5 ((fun z => by rw [(hS _ z).1 0 (by decide)]; rfl) z) rfl rfl qs74) q1912 q1914 rfl dX5_behindSum_17 ?_
    refine r_if_eq (tgt := 28) B dX5_behindSum_20 (by decide) (fun cn8 => ?_) (fun cn8 => ?_)
    · have h := ot cn8 h
      refine r_aload_n (j := 0) B dX5_behindSum_28 rfl rfl ?_
      refine r_bipush (v := 42) B dX5_behindSum_29 (by decide) ?_
      obtain ⟨r9, s10, hc11, h⟩ := bnd_e h
      refine r_callVv (As := [vi (42 : Int32)]) (rest := []) B rfl rfl EX.same (c_X5_isSign B.ge hS hc11) (cw_X5_isSign rfl rfl) (fun z => RV.of 5 ((fun z => by rw [(hS _ z).1 0 (by decide)]; rfl) z) rfl rfl qs74) q1912 q1914 rfl dX5_behindSum_31 ?_
      refine r_if_eq (tgt := 42) B dX5_behindSum_34 (by decide) (fun cn12 => ?_) (fun cn12 => ?_)
      · have h := ot cn12 h
        refine r_aload_n (j := 0) B dX5_behindSum_42 rfl rfl ?_
        refine r_bipush (v := 47) B dX5_behindSum_43 (by decide) ?_
        obtain ⟨r13, s14, hc15, h⟩ := bnd_e h
        refine r_callVv (As := [vi (47 : Int32)]) (rest := []) B rfl rfl EX.same (c_X5_isSign B.ge hS hc15) (cw_X5_isSign rfl rfl) (fun z => RV.of 5 ((fun z => by rw [(hS _ z).1 0 (by decide)]; rfl) z) rfl rfl qs74) q1912 q1914 rfl dX5_behindSum_45 ?_
        refine r_if_eq (tgt := 56) B dX5_behindSum_48 (by decide) (fun cn16 => ?_) (fun cn16 => ?_)
        · have h := ot cn16 h
          refine r_aload_n (j := 0) B dX5_behindSum_56 rfl rfl ?_
          refine r_bipush (v := 37) B dX5_behindSum_57 (by decide) ?_
          obtain ⟨r17, s18, hc19, h⟩ := bnd_e h
          refine r_callVv (As := [vi (37 : Int32)]) (rest := []) B rfl rfl EX.same (c_X5_isSign B.ge hS hc19) (cw_X5_isSign rfl rfl) (fun z => RV.of 5 ((fun z => by rw [(hS _ z).1 0 (by decide)]; rfl) z) rfl rfl qs74) q1912 q1914 rfl dX5_behindSum_59 ?_
          refine r_if_eq (tgt := 70) B dX5_behindSum_62 (by decide) (fun cn20 => ?_) (fun cn20 => ?_)
          · have h := ot cn20 h
            refine r_iconst (v := -1) B dX5_behindSum_70 (by decide) ?_
            exact w_X5_behindSum_71 B hS s18 p0 (-1 : Int32) h
          · have h := of cn20 h
            refine r_bipush (v := 24) B dX5_behindSum_65 (by decide) ?_
            refine r_goto (tgt := 71) B dX5_behindSum_67 (by decide) ?_
            exact w_X5_behindSum_71 B hS s18 p0 (24 : Int32) h
        · have h := of cn16 h
          refine r_bipush (v := 23) B dX5_behindSum_51 (by decide) ?_
          refine r_goto (tgt := 71) B dX5_behindSum_53 (by decide) ?_
          exact w_X5_behindSum_71 B hS s14 p0 (23 : Int32) h
      · have h := of cn12 h
        refine r_bipush (v := 22) B dX5_behindSum_37 (by decide) ?_
        refine r_goto (tgt := 71) B dX5_behindSum_39 (by decide) ?_
        exact w_X5_behindSum_71 B hS s10 p0 (22 : Int32) h
    · have h := of cn8 h
      refine r_bipush (v := 21) B dX5_behindSum_23 (by decide) ?_
      refine r_goto (tgt := 71) B dX5_behindSum_25 (by decide) ?_
      exact w_X5_behindSum_71 B hS s6 p0 (21 : Int32) h
  · have h := of cn4 h
    refine r_bipush (v := 20) B dX5_behindSum_9 (by decide) ?_
    refine r_goto (tgt := 71) B dX5_behindSum_11 (by decide) ?_
    exact w_X5_behindSum_71 B hS s2 p0 (20 : Int32) h
set_option maxHeartbeats 4000000 in
theorem cw_X5_behindSum {X : CX} {fr lo : Nat} (h1 : Nat.ble (3 + 1) fr = true) (h2 : Nat.ble (23 + 61) lo = true) : CW X fr lo yX5_behindSum cX5_behindSum 4 (some .int) 3 61 1 := ⟨q1948, q136, ⟨by decide +kernel, by decide +kernel, by decide +kernel⟩, Nat.le_of_ble_eq_true h1, Nat.le_of_ble_eq_true h2⟩

