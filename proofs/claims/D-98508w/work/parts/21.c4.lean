set_option maxRecDepth 100000
set_option maxHeartbeats 4000000 in
noncomputable def F_X0_putsBack (s : St) (p0 : Int32) : Option (Unit × St) := gd (okC (0 : Int32) (0 : Int32) (6 : Int32) 6 6) <| nam (cpyI s 17 (0 : Int32).toNatClampNeg 3 (0 : Int32).toNatClampNeg (6 : Int32).toNatClampNeg) fun s2 => gd (okC (0 : Int32) (0 : Int32) (6 : Int32) 6 6) <| nam (cpyI s2 18 (0 : Int32).toNatClampNeg 7 (0 : Int32).toNatClampNeg (6 : Int32).toNatClampNeg) fun s5 => gd (okC (0 : Int32) (0 : Int32) (96 : Int32) 96 96) <| nam (cpyI s5 15 (0 : Int32).toNatClampNeg 13 (0 : Int32).toNatClampNeg (96 : Int32).toNatClampNeg) fun s8 => gd (okC (0 : Int32) (0 : Int32) (16 : Int32) 16 16) <| nam (cpyI s8 16 (0 : Int32).toNatClampNeg 14 (0 : Int32).toNatClampNeg (16 : Int32).toNatClampNeg) fun s11 => nam (setI s11 0 15 p0) fun s13 => some ((), s13)
set_option maxHeartbeats 4000000 in
theorem c_X0_putsBack {l : Launch} {E : EV} (hE : GE E) (hS : ∀ σ, eSk E σ ↔ SkC σ) {s s' : St} {r : Unit} {p0 : Int32} (h : F_X0_putsBack  s p0 = some (r, s')) : CT l E yX0_putsBack cX0_putsBack 2 none 1 60 [vr (some 0), vi p0] s none s' := by
  refine CT.start hE (by decide) rfl [(0, vr (some 0)), (1, vi p0)] rfl (fun X hX B => ?_)
  skip
  have B : FX X E cX0_putsBack 2 none "RoseThrow" "putsBack" (sn s) (ss s) 1 60 := B
  unfold F_X0_putsBack at h
  refine r_aload_n (j := 0) B dX0_putsBack_0 rfl rfl ?_
  refine g0 (k := 8) B (vr (some 17)) rfl (fun z => by rw [((hS _).1 z).1 0 (by decide)]; rfl) rfl q364 rfl (fun z => by rw [((hS _).1 z).2 _ (List.mem_of_getElem? (i := 7) rfl)]; rfl) dX0_putsBack_1 ?_
  refine r_iconst (v := 0) B dX0_putsBack_4 (by decide) ?_
  refine r_aload_n (j := 0) B dX0_putsBack_5 rfl rfl ?_
  refine g0 (k := 2) B (vr (some 2)) rfl (fun z => by rw [((hS _).1 z).1 0 (by decide)]; rfl) rfl q358 rfl (fun z => by rw [((hS _).1 z).2 _ (List.mem_of_getElem? (i := 1) rfl)]; rfl) dX0_putsBack_6 ?_
  refine g1N (k := 0) B (vr (some 3)) rfl (fun z => by rw [((hS _).1 z).1 2 (by decide)]; rfl) rfl (lw_n q206 rfl) rfl (fun z => by rw [((hS _).1 z).2 _ (List.mem_of_getElem? (i := 17) rfl)]; rfl) dX0_putsBack_9 ?_
  refine r_iconst (v := 0) B dX0_putsBack_12 (by decide) ?_
  refine r_bipush (v := 6) B dX0_putsBack_13 (by decide) ?_
  obtain ⟨hg1, h⟩ := gd_e h
  obtain ⟨s2, e3, h⟩ := nam_e h
  refine r_copyI B e3 rfl rfl (fun z => ((hS _).1 z).1 17 (by decide)) (fun z => ((hS _).1 z).1 3 (by decide)) hg1 q1221 q461 q460 q157 (by decide) (by decide) rfl dX0_putsBack_15 ?_
  refine r_aload_n (j := 0) B dX0_putsBack_18 rfl rfl ?_
  refine g0 (k := 9) B (vr (some 18)) rfl (fun z => by rw [((hS _).1 z).1 0 (by decide)]; rfl) rfl q365 rfl (fun z => by rw [((hS _).1 z).2 _ (List.mem_of_getElem? (i := 8) rfl)]; rfl) dX0_putsBack_19 ?_
  refine r_iconst (v := 0) B dX0_putsBack_22 (by decide) ?_
  refine r_aload_n (j := 0) B dX0_putsBack_23 rfl rfl ?_
  refine g0 (k := 2) B (vr (some 2)) rfl (fun z => by rw [((hS _).1 z).1 0 (by decide)]; rfl) rfl q358 rfl (fun z => by rw [((hS _).1 z).2 _ (List.mem_of_getElem? (i := 1) rfl)]; rfl) dX0_putsBack_24 ?_
  refine g1N (k := 4) B (vr (some 7)) rfl (fun z => by rw [((hS _).1 z).1 2 (by decide)]; rfl) rfl (lw_n q214 rfl) rfl (fun z => by rw [((hS _).1 z).2 _ (List.mem_of_getElem? (i := 21) rfl)]; rfl) dX0_putsBack_27 ?_
  refine r_iconst (v := 0) B dX0_putsBack_30 (by decide) ?_
  refine r_bipush (v := 6) B dX0_putsBack_31 (by decide) ?_
  obtain ⟨hg4, h⟩ := gd_e h
  obtain ⟨s5, e6, h⟩ := nam_e h
  refine r_copyI B e6 rfl rfl (fun z => ((hS _).1 z).1 18 (by decide)) (fun z => ((hS _).1 z).1 7 (by decide)) hg4 q1221 q461 q460 q157 (by decide) (by decide) rfl dX0_putsBack_33 ?_
  refine r_aload_n (j := 0) B dX0_putsBack_36 rfl rfl ?_
  refine g0 (k := 6) B (vr (some 15)) rfl (fun z => by rw [((hS _).1 z).1 0 (by decide)]; rfl) rfl q362 rfl (fun z => by rw [((hS _).1 z).2 _ (List.mem_of_getElem? (i := 5) rfl)]; rfl) dX0_putsBack_37 ?_
  refine r_iconst (v := 0) B dX0_putsBack_40 (by decide) ?_
  refine r_aload_n (j := 0) B dX0_putsBack_41 rfl rfl ?_
  refine g0 (k := 4) B (vr (some 13)) rfl (fun z => by rw [((hS _).1 z).1 0 (by decide)]; rfl) rfl q360 rfl (fun z => by rw [((hS _).1 z).2 _ (List.mem_of_getElem? (i := 3) rfl)]; rfl) dX0_putsBack_42 ?_
  refine r_iconst (v := 0) B dX0_putsBack_45 (by decide) ?_
  refine r_bipush (v := 96) B dX0_putsBack_46 (by decide) ?_
  obtain ⟨hg7, h⟩ := gd_e h
  obtain ⟨s8, e9, h⟩ := nam_e h
  refine r_copyI B e9 rfl rfl (fun z => ((hS _).1 z).1 15 (by decide)) (fun z => ((hS _).1 z).1 13 (by decide)) hg7 q1221 q461 q460 q157 (by decide) (by decide) rfl dX0_putsBack_48 ?_
  refine r_aload_n (j := 0) B dX0_putsBack_51 rfl rfl ?_
  refine g0 (k := 7) B (vr (some 16)) rfl (fun z => by rw [((hS _).1 z).1 0 (by decide)]; rfl) rfl q363 rfl (fun z => by rw [((hS _).1 z).2 _ (List.mem_of_getElem? (i := 6) rfl)]; rfl) dX0_putsBack_52 ?_
  refine r_iconst (v := 0) B dX0_putsBack_55 (by decide) ?_
  refine r_aload_n (j := 0) B dX0_putsBack_56 rfl rfl ?_
  refine g0 (k := 5) B (vr (some 14)) rfl (fun z => by rw [((hS _).1 z).1 0 (by decide)]; rfl) rfl q361 rfl (fun z => by rw [((hS _).1 z).2 _ (List.mem_of_getElem? (i := 4) rfl)]; rfl) dX0_putsBack_57 ?_
  refine r_iconst (v := 0) B dX0_putsBack_60 (by decide) ?_
  refine r_bipush (v := 16) B dX0_putsBack_61 (by decide) ?_
  obtain ⟨hg10, h⟩ := gd_e h
  obtain ⟨s11, e12, h⟩ := nam_e h
  refine r_copyI B e12 rfl rfl (fun z => ((hS _).1 z).1 16 (by decide)) (fun z => ((hS _).1 z).1 14 (by decide)) hg10 q1221 q461 q460 q157 (by decide) (by decide) rfl dX0_putsBack_63 ?_
  refine r_aload_n (j := 0) B dX0_putsBack_66 rfl rfl ?_
  refine r_iload_n (j := 1) B dX0_putsBack_67 rfl rfl ?_
  obtain ⟨s13, e14, h⟩ := nam_e h
  refine pI0 (k := 15) B e14 rfl (fun z => by rw [((hS _).1 z).1 0 (by decide)]; rfl) rfl q371 rfl rfl (fun _ _ _ => rfl) rfl dX0_putsBack_68 ?_
  exact r_vret B dX0_putsBack_71 h
set_option maxHeartbeats 4000000 in
theorem cw_X0_putsBack {X : CX} {fr lo : Nat} (h1 : Nat.ble (1 + 1) fr = true) (h2 : Nat.ble (21 + 60) lo = true) : CW X fr lo yX0_putsBack cX0_putsBack 2 none 1 60 1 := ⟨q1459, q126, ⟨by decide +kernel, by decide +kernel, by decide +kernel⟩, Nat.le_of_ble_eq_true h1, Nat.le_of_ble_eq_true h2⟩

set_option maxHeartbeats 4000000 in
noncomputable def F_X0_orders_152 (k123 : St → Option Nat → Int32 → Int32 → Int32 → Int32 → Option (Int32 × St)) : Nat → St → Option Nat → Int32 → Int32 → Int32 → Int32 → Option Nat → Int32 → Option (Int32 × St)
  | 0 => fun _ _ _ _ _ _ _ _ => none
  | n + 1 => fun s x2 x3 x4 x5 x6 x7 x8 => drf x7 fun a1 => gd (isK s a1 15) <| if (si s a1 3) ≤ x8 then (k123 s x2 x3 x4 x5 (x6 + (1))) else (bnd (F_X0_tellsOrder s x4 x5) fun _ s6 => drf x7 fun a8 => gd (isK s6 a8 15) <| bnd (F_X18_isNow s6 a8 (some 20)) fun r11 s12 => gp (SkC s12) <| if r11 = 0 then (F_X0_orders_152 k123 n s12 x2 x3 x4 x5 x6 x7 (x8 + (1))) else (bnd (F_X0_runs s12 x7) fun r16 s17 => if 0 ≤ r16 then (drf x7 fun a20 => gd (isK s17 a20 15) <| if (si s17 a20 0) = (1 : Int32) then (F_X0_orders_152 k123 n s17 x2 x3 (x4 + (1)) r16 x6 x7 (x8 + (1))) else (F_X0_orders_152 k123 n s17 x2 x3 (x4 + (1)) x5 x6 x7 (x8 + (1)))) else (bnd (F_X0_putsBack s17 x3) fun _ s25 => nam (setI s25 0 14 x6) fun s27 => bnd (F_X0_refuse s27 (-3 : Int32)) fun r29 s30 => some (r29, s30))))
set_option maxHeartbeats 4000000 in
theorem w_X0_orders_152 {X : CX} {E : EV} {a0 s' : St} {r : Int32} (B : FX X E cX0_orders 10 (some .int) "RoseThrow" "orders" (sn a0) (ss a0) 402 20042) (hS : ∀ σ, eSk E σ ↔ SkC σ) (k123 : St → Option Nat → Int32 → Int32 → Int32 → Int32 → Option (Int32 × St)) (hk123 : ∀ (s : St) (x2 : Option Nat) (x3 : Int32) (x4 : Int32) (x5 : Int32) (x6 : Int32), k123 s x2 x3 x4 x5 x6 = some (r, s') → J X E (sn a0) (ss a0) 10 (QR X E a0 (some (vi r)) s') s 123 [(0, vr (some 0)), (2, vr x2), (3, vi x3), (4, vi x4), (5, vi x5), (6, vi x6)] []) : ∀ (n : Nat) (s : St) (x2 : Option Nat) (x3 : Int32) (x4 : Int32) (x5 : Int32) (x6 : Int32) (x7 : Option Nat) (x8 : Int32), F_X0_orders_152  k123 n s x2 x3 x4 x5 x6 x7 x8 = some (r, s') → J X E (sn a0) (ss a0) 10 (QR X E a0 (some (vi r)) s') s 152 [(0, vr (some 0)), (2, vr x2), (3, vi x3), (4, vi x4), (5, vi x5), (6, vi x6), (7, vr x7), (8, vi x8)] [] := by
  intro n
  induction n with
  | zero => intro s x2 x3 x4 x5 x6 x7 x8 h; exact absurd (show (none : Option (Int32 × St)) = _ from h) (by simp)
  | succ n ih =>
    intro s x2 x3 x4 x5 x6 x7 x8 h
    rw [F_X0_orders_152] at h
    refine r_iload (j := 7) B dX0_orders_152 rfl ?_
    refine r_aload (j := 6) B dX0_orders_154 rfl ?_
    obtain ⟨a1, ea2, h⟩ := drf_e h
    obtain ⟨hg3, h⟩ := gd_e h
    refine g15N (k := 3) B (vi (si s a1 3)) ea2 (fun _ => isK_e hg3) rfl (lw_n q1126 rfl) rfl (fun _ => rfl) dX0_orders_156 ?_
    refine r_ic_ge (tgt := 243) B dX0_orders_159 (by decide) (fun cn4 => ?_) (fun cn4 => ?_)
    · have h := ot cn4 h
      refine r_iinc (j := 5) (v := (x6 + (1))) (L' := [(0, vr (some 0)), (2, vr x2), (3, vi x3), (4, vi x4), (5, vi x5), (6, vi (x6 + (1))), (7, vr x7), (8, vi x8)]) B dX0_orders_243 rfl rfl (by decide) rfl rfl rfl ?_
      refine r_goto (tgt := 123) B dX0_orders_246 (by decide) ?_
      refine r_pick [0, 1, 2, 3, 4, 5] (L' := [(0, vr (some 0)), (2, vr x2), (3, vi x3), (4, vi x4), (5, vi x5), (6, vi (x6 + (1)))]) rfl ?_
      exact hk123 s x2 x3 x4 x5 (x6 + (1)) h
    · have h := of cn4 h
      refine r_aload_n (j := 0) B dX0_orders_162 rfl rfl ?_
      refine r_iload (j := 3) B dX0_orders_163 rfl ?_
      refine r_iload (j := 4) B dX0_orders_165 rfl ?_
      obtain ⟨r5, s6, hc7, h⟩ := bnd_e h
      refine r_callV0 (As := [vi x4, vi x5]) (rest := []) B rfl rfl EX.same (c_X0_tellsOrder B.ge hS hc7) (cw_X0_tellsOrder rfl rfl) (fun z => RV.of 0 (by rw [((hS _).1 z).1 0 (by decide)]; rfl) rfl rfl qs42) q1435 q1437 rfl dX0_orders_167 ?_
      refine r_aload (j := 6) B dX0_orders_170 rfl ?_
      refine r_aload_n (j := 0) B dX0_orders_172 rfl rfl ?_
      refine g0 (k := 16) B (vr (some 20)) rfl (fun z => by rw [((hS _).1 z).1 0 (by decide)]; rfl) rfl q372 rfl (fun z => by rw [((hS _).1 z).2 _ (List.mem_of_getElem? (i := 10) rfl)]; rfl) dX0_orders_173 ?_
      obtain ⟨a8, ea9, h⟩ := drf_e h
      obtain ⟨hg10, h⟩ := gd_e h
      obtain ⟨r11, s12, hc13, h⟩ := bnd_e h
      obtain ⟨hg14, h⟩ := gp_e h
      refine r_callVW (As := [vr (some 20)]) (rest := []) B rfl ea9 (EX.noSk (fun _ => (hS _).2 hg14)) (c_X18_isNow B.ge.noSk (fun _ => trivial) hc13) (cw_X18_isNow rfl rfl) (fun z => RV.of 15 ((fun _ => isK_e hg10) z) rfl rfl q1441) q1439 q1440 rfl dX0_orders_176 ?_
      refine r_if_ne (tgt := 185) B dX0_orders_179 (by decide) (fun cn15 => ?_) (fun cn15 => ?_)
      · have h := of cn15 h
        refine r_aload_n (j := 0) B dX0_orders_185 rfl rfl ?_
        refine r_aload (j := 6) B dX0_orders_186 rfl ?_
        obtain ⟨r16, s17, hc18, h⟩ := bnd_e h
        refine r_callVv (As := [vr x7]) (rest := []) B rfl rfl EX.same (c_X0_runs B.ge hS hc18) (cw_X0_runs rfl rfl) (fun z => RV.of 0 (by rw [((hS _).1 z).1 0 (by decide)]; rfl) rfl rfl qs43) q1445 q1447 rfl dX0_orders_188 ?_
        refine r_istore (L' := [(0, vr (some 0)), (2, vr x2), (3, vi x3), (4, vi x4), (5, vi x5), (6, vi x6), (7, vr x7), (8, vi x8), (9, vi r16)]) B dX0_orders_191 (by decide) rfl rfl rfl ?_
        refine r_iload (j := 8) B dX0_orders_193 rfl ?_
        refine r_if_ge (tgt := 216) B dX0_orders_195 (by decide) (fun cn19 => ?_) (fun cn19 => ?_)
        · have h := ot cn19 h
          refine r_aload (j := 6) B dX0_orders_216 rfl ?_
          obtain ⟨a20, ea21, h⟩ := drf_e h
          obtain ⟨hg22, h⟩ := gd_e h
          refine g15N (k := 0) B (vi (si s17 a20 0)) ea21 (fun _ => isK_e hg22) rfl (lw_n q1119 rfl) rfl (fun _ => rfl) dX0_orders_218 ?_
          refine r_iconst (v := 1) B dX0_orders_221 (by decide) ?_
          refine r_ic_ne (tgt := 230) B dX0_orders_222 (by decide) (fun cn23 => ?_) (fun cn23 => ?_)
          · have h := of cn23 h
            refine r_iload (j := 4) B dX0_orders_230 rfl ?_
            refine r_istore (L' := [(0, vr (some 0)), (2, vr x2), (3, vi x3), (4, vi x4), (5, vi x5), (6, vi x6), (7, vr x7), (8, vi x8), (9, vi r16)]) B dX0_orders_232 (by decide) rfl rfl rfl ?_
            refine r_iinc (j := 3) (v := (x4 + (1))) (L' := [(0, vr (some 0)), (2, vr x2), (3, vi x3), (4, vi (x4 + (1))), (5, vi x5), (6, vi x6), (7, vr x7), (8, vi x8), (9, vi r16)]) B dX0_orders_234 rfl rfl (by decide) rfl rfl rfl ?_
            refine r_iinc (j := 7) (v := (x8 + (1))) (L' := [(0, vr (some 0)), (2, vr x2), (3, vi x3), (4, vi (x4 + (1))), (5, vi x5), (6, vi x6), (7, vr x7), (8, vi (x8 + (1))), (9, vi r16)]) B dX0_orders_237 rfl rfl (by decide) rfl rfl rfl ?_
            refine r_goto (tgt := 152) B dX0_orders_240 (by decide) ?_
            refine r_pick [0, 1, 2, 3, 4, 5, 6, 7] (L' := [(0, vr (some 0)), (2, vr x2), (3, vi x3), (4, vi (x4 + (1))), (5, vi x5), (6, vi x6), (7, vr x7), (8, vi (x8 + (1)))]) rfl ?_
            exact ih s17 x2 x3 (x4 + (1)) x5 x6 x7 (x8 + (1)) h
          · have h := ot cn23 h
            refine r_iload (j := 8) B dX0_orders_225 rfl ?_
            refine r_goto (tgt := 232) B dX0_orders_227 (by decide) ?_
            refine r_istore (L' := [(0, vr (some 0)), (2, vr x2), (3, vi x3), (4, vi x4), (5, vi r16), (6, vi x6), (7, vr x7), (8, vi x8), (9, vi r16)]) B dX0_orders_232 (by decide) rfl rfl rfl ?_
            refine r_iinc (j := 3) (v := (x4 + (1))) (L' := [(0, vr (some 0)), (2, vr x2), (3, vi x3), (4, vi (x4 + (1))), (5, vi r16), (6, vi x6), (7, vr x7), (8, vi x8), (9, vi r16)]) B dX0_orders_234 rfl rfl (by decide) rfl rfl rfl ?_
            refine r_iinc (j := 7) (v := (x8 + (1))) (L' := [(0, vr (some 0)), (2, vr x2), (3, vi x3), (4, vi (x4 + (1))), (5, vi r16), (6, vi x6), (7, vr x7), (8, vi (x8 + (1))), (9, vi r16)]) B dX0_orders_237 rfl rfl (by decide) rfl rfl rfl ?_
            refine r_goto (tgt := 152) B dX0_orders_240 (by decide) ?_
            refine r_pick [0, 1, 2, 3, 4, 5, 6, 7] (L' := [(0, vr (some 0)), (2, vr x2), (3, vi x3), (4, vi (x4 + (1))), (5, vi r16), (6, vi x6), (7, vr x7), (8, vi (x8 + (1)))]) rfl ?_
            exact ih s17 x2 x3 (x4 + (1)) r16 x6 x7 (x8 + (1)) h
        · have h := of cn19 h
          refine r_aload_n (j := 0) B dX0_orders_198 rfl rfl ?_
          refine r_iload_n (j := 2) B dX0_orders_199 rfl rfl ?_
          obtain ⟨r24, s25, hc26, h⟩ := bnd_e h
          refine r_callV0 (As := [vi x3]) (rest := []) B rfl rfl EX.same (c_X0_putsBack B.ge hS hc26) (cw_X0_putsBack rfl rfl) (fun z => RV.of 0 (by rw [((hS _).1 z).1 0 (by decide)]; rfl) rfl rfl qs44) q1456 q1458 rfl dX0_orders_200 ?_
          refine r_aload_n (j := 0) B dX0_orders_203 rfl rfl ?_
          refine r_iload (j := 5) B dX0_orders_204 rfl ?_
          obtain ⟨s27, e28, h⟩ := nam_e h
          refine pI0 (k := 14) B e28 rfl (fun z => by rw [((hS _).1 z).1 0 (by decide)]; rfl) rfl q370 rfl rfl (fun _ _ _ => rfl) rfl dX0_orders_206 ?_
          refine r_aload_n (j := 0) B dX0_orders_209 rfl rfl ?_
          refine r_bipush (v := -3) B dX0_orders_210 (by decide) ?_
          obtain ⟨r29, s30, hc31, h⟩ := bnd_e h
          refine r_callVv (As := [vi (-3 : Int32)]) (rest := []) B rfl rfl EX.same (c_X0_refuse B.ge hS hc31) (cw_X0_refuse rfl rfl) (fun z => RV.of 0 (by rw [((hS _).1 z).1 0 (by decide)]; rfl) rfl rfl qs1) q448 q450 rfl dX0_orders_212 ?_
          exact r_iret B dX0_orders_215 h
      · have h := ot cn15 h
        refine r_goto (tgt := 237) B dX0_orders_182 (by decide) ?_
        refine r_iinc (j := 7) (v := (x8 + (1))) (L' := [(0, vr (some 0)), (2, vr x2), (3, vi x3), (4, vi x4), (5, vi x5), (6, vi x6), (7, vr x7), (8, vi (x8 + (1)))]) B dX0_orders_237 rfl rfl (by decide) rfl rfl rfl ?_
        refine r_goto (tgt := 152) B dX0_orders_240 (by decide) ?_
        exact ih s12 x2 x3 x4 x5 x6 x7 (x8 + (1)) h
set_option maxHeartbeats 4000000 in
noncomputable def F_X0_orders_123 : Nat → St → Option Nat → Int32 → Int32 → Int32 → Int32 → Option (Int32 × St)
  | 0 => fun _ _ _ _ _ _ => none
  | n + 1 => fun s x2 x3 x4 x5 x6 => drf x2 fun a1 => gd (isK s a1 17) <| drf (sr s a1 7) fun a4 => gd (isK s a4 18) <| bnd (F_J2_size s a4) fun r7 s8 => gp (SkC s8) <| if r7 ≤ x6 then (bnd (F_X0_done s8 x4) fun r12 s13 => some (r12, s13)) else (drf x2 fun a15 => gd (isK s8 a15 17) <| drf (sr s8 a15 7) fun a18 => gd (isK s8 a18 18) <| bnd (F_J2_get s8 a18 x6) fun r21 s22 => gp (SkC s22) <| drf r21 fun a25 => gd (isK s22 a25 15) <| F_X0_orders_152 (F_X0_orders_123  n) FU s22 x2 x3 x4 x5 x6 r21 (0 : Int32))
set_option maxHeartbeats 4000000 in
theorem w_X0_orders_123 {X : CX} {E : EV} {a0 s' : St} {r : Int32} (B : FX X E cX0_orders 10 (some .int) "RoseThrow" "orders" (sn a0) (ss a0) 402 20042) (hS : ∀ σ, eSk E σ ↔ SkC σ) : ∀ (n : Nat) (s : St) (x2 : Option Nat) (x3 : Int32) (x4 : Int32) (x5 : Int32) (x6 : Int32), F_X0_orders_123   n s x2 x3 x4 x5 x6 = some (r, s') → J X E (sn a0) (ss a0) 10 (QR X E a0 (some (vi r)) s') s 123 [(0, vr (some 0)), (2, vr x2), (3, vi x3), (4, vi x4), (5, vi x5), (6, vi x6)] [] := by
  intro n
  induction n with
  | zero => intro s x2 x3 x4 x5 x6 h; exact absurd (show (none : Option (Int32 × St)) = _ from h) (by simp)
  | succ n ih =>
    intro s x2 x3 x4 x5 x6 h
    rw [F_X0_orders_123] at h
    refine r_iload (j := 5) B dX0_orders_123 rfl ?_
    refine r_aload_n (j := 1) B dX0_orders_125 rfl rfl ?_
    obtain ⟨a1, ea2, h⟩ := drf_e h
    obtain ⟨hg3, h⟩ := gd_e h
    refine g17N (k := 7) B (vr (sr s a1 7)) ea2 (fun _ => isK_e hg3) rfl (lw_n q1423 rfl) rfl (fun _ => rfl) dX0_orders_126 ?_
    obtain ⟨a4, ea5, h⟩ := drf_e h
    obtain ⟨hg6, h⟩ := gd_e h
    obtain ⟨r7, s8, hc9, h⟩ := bnd_e h
    obtain ⟨hg10, h⟩ := gp_e h
    refine r_callVv (As := []) (rest := [vi x6]) B rfl ea5 (EX.noSk (fun _ => (hS _).2 hg10)) (c_J2_size B.ge.noSk (fun _ => trivial) hc9) (cw_J2_size rfl rfl) (fun z => RV.of 18 ((fun _ => isK_e hg6) z) rfl rfl q606) q693 q605 rfl dX0_orders_129 ?_
    refine r_ic_ge (tgt := 249) B dX0_orders_132 (by decide) (fun cn11 => ?_) (fun cn11 => ?_)
    · have h := ot cn11 h
      refine r_aload_n (j := 0) B dX0_orders_249 rfl rfl ?_
      refine r_iload (j := 3) B dX0_orders_250 rfl ?_
      obtain ⟨r12, s13, hc14, h⟩ := bnd_e h
      refine r_callVv (As := [vi x4]) (rest := []) B rfl rfl EX.same (c_X0_done B.ge hS hc14) (cw_X0_done rfl rfl) (fun z => RV.of 0 (by rw [((hS _).1 z).1 0 (by decide)]; rfl) rfl rfl qs3) q533 q535 rfl dX0_orders_252 ?_
      exact r_iret B dX0_orders_255 h
    · have h := of cn11 h
      refine r_aload_n (j := 1) B dX0_orders_135 rfl rfl ?_
      obtain ⟨a15, ea16, h⟩ := drf_e h
      obtain ⟨hg17, h⟩ := gd_e h
      refine g17N (k := 7) B (vr (sr s8 a15 7)) ea16 (fun _ => isK_e hg17) rfl (lw_n q1423 rfl) rfl (fun _ => rfl) dX0_orders_136 ?_
      refine r_iload (j := 5) B dX0_orders_139 rfl ?_
      obtain ⟨a18, ea19, h⟩ := drf_e h
      obtain ⟨hg20, h⟩ := gd_e h
      obtain ⟨r21, s22, hc23, h⟩ := bnd_e h
      obtain ⟨hg24, h⟩ := gp_e h
      refine r_callVv (As := [vi x6]) (rest := []) B rfl ea19 (EX.noSk (fun _ => (hS _).2 hg24)) (c_J2_get B.ge.noSk (fun _ => trivial) hc23) (cw_J2_get rfl rfl) (fun z => RV.of 18 ((fun _ => isK_e hg20) z) rfl rfl q586) q584 q585 rfl dX0_orders_141 ?_
      obtain ⟨a25, ea26, h⟩ := drf_e h
      obtain ⟨hg27, h⟩ := gd_e h
      refine r_castS B ea26 (fun _ => isK_e hg27) (by decide) rfl q1434 dX0_orders_144 ?_
      refine r_astore (L' := [(0, vr (some 0)), (2, vr x2), (3, vi x3), (4, vi x4), (5, vi x5), (6, vi x6), (7, vr r21)]) B dX0_orders_147 (by decide) rfl rfl rfl ?_
      refine r_iconst (v := 0) B dX0_orders_149 (by decide) ?_
      refine r_istore (L' := [(0, vr (some 0)), (2, vr x2), (3, vi x3), (4, vi x4), (5, vi x5), (6, vi x6), (7, vr r21), (8, vi (0 : Int32))]) B dX0_orders_150 (by decide) rfl rfl rfl ?_
      exact w_X0_orders_152 B hS (F_X0_orders_123  n) ih FU s22 x2 x3 x4 x5 x6 r21 (0 : Int32) h
set_option maxHeartbeats 4000000 in
noncomputable def F_X0_orders (s : St)  : Option (Int32 × St) := nam (setI s 0 11 (0 : Int32)) fun s1 => nam (setI s1 0 14 (-1 : Int32)) fun s3 => gd (okN s3 8) <| nam (newO s3 (17, 0) 8) fun s6 => gp (SkC s6) <| bnd (F_X20_init s6 (sn s3) (some 19) (si s 0 11)) fun _ s10 => gp (SkC s10) <| bnd (F_X0_reads s10 (some (sn s3))) fun r13 s14 => if r13 = 0 then (bnd (F_X0_refuse s14 (-6 : Int32)) fun r29 s30 => some (r29, s30)) else (gd (okC (0 : Int32) (0 : Int32) (6 : Int32) 6 6) <| nam (cpyI s14 3 (0 : Int32).toNatClampNeg 17 (0 : Int32).toNatClampNeg (6 : Int32).toNatClampNeg) fun s18 => gd (okC (0 : Int32) (0 : Int32) (6 : Int32) 6 6) <| nam (cpyI s18 7 (0 : Int32).toNatClampNeg 18 (0 : Int32).toNatClampNeg (6 : Int32).toNatClampNeg) fun s21 => gd (okC (0 : Int32) (0 : Int32) (96 : Int32) 96 96) <| nam (cpyI s21 13 (0 : Int32).toNatClampNeg 15 (0 : Int32).toNatClampNeg (96 : Int32).toNatClampNeg) fun s24 => gd (okC (0 : Int32) (0 : Int32) (16 : Int32) 16 16) <| nam (cpyI s24 14 (0 : Int32).toNatClampNeg 16 (0 : Int32).toNatClampNeg (16 : Int32).toNatClampNeg) fun s27 => F_X0_orders_123 FU s27 (some (sn s3)) (si s27 0 15) (0 : Int32) (-1 : Int32) (0 : Int32))
set_option maxHeartbeats 4000000 in
theorem c_X0_orders {l : Launch} {E : EV} (hE : GE E) (hS : ∀ σ, eSk E σ ↔ SkC σ) {s s' : St} {r : Int32}  (h : F_X0_orders  s  = some (r, s')) : CT l E yX0_orders cX0_orders 10 (some .int) 402 20042 [vr (some 0)] s (some (vi r)) s' := by
  refine CT.start hE (by decide) rfl [(0, vr (some 0))] rfl (fun X hX B => ?_)
  skip
  have B : FX X E cX0_orders 10 (some .int) "RoseThrow" "orders" (sn s) (ss s) 402 20042 := B
  unfold F_X0_orders at h
  refine r_aload_n (j := 0) B dX0_orders_0 rfl rfl ?_
  refine g0 (k := 11) B (vi (si s 0 11)) rfl (fun z => by rw [((hS _).1 z).1 0 (by decide)]; rfl) rfl q367 rfl (fun _ => rfl) dX0_orders_1 ?_
  refine r_istore_n (L' := [(0, vr (some 0)), (1, vi (si s 0 11))]) B dX0_orders_4 rfl (by decide) rfl rfl rfl ?_
  refine r_aload_n (j := 0) B dX0_orders_5 rfl rfl ?_
  refine r_iconst (v := 0) B dX0_orders_6 (by decide) ?_
  obtain ⟨s1, e2, h⟩ := nam_e h
  refine pI0 (k := 11) B e2 rfl (fun z => by rw [((hS _).1 z).1 0 (by decide)]; rfl) rfl q367 rfl rfl (fun _ _ _ => rfl) rfl dX0_orders_7 ?_
  refine r_aload_n (j := 0) B dX0_orders_10 rfl rfl ?_
  refine r_iconst (v := -1) B dX0_orders_11 (by decide) ?_
  obtain ⟨s3, e4, h⟩ := nam_e h
  refine pI0 (k := 14) B e4 rfl (fun z => by rw [((hS _).1 z).1 0 (by decide)]; rfl) rfl q370 rfl rfl (fun _ _ _ => rfl) rfl dX0_orders_12 ?_
  obtain ⟨hg5, h⟩ := gd_e h
  obtain ⟨s6, e7, h⟩ := nam_e h
  obtain ⟨hg8, h⟩ := gp_e h
  refine r_new B e7 hg5 (c := 17) rfl (by decide) rfl in_X20 tyX20_ok rfl q1414 q1415 q160 (fun _ => (hS _).2 hg8) dX0_orders_15 ?_
  refine r_dup B dX0_orders_18 rfl ?_
  refine r_aload_n (j := 0) B dX0_orders_19 rfl rfl ?_
  refine g0 (k := 10) B (vr (some 19)) rfl (fun z => by rw [((hS _).1 z).1 0 (by decide)]; rfl) rfl q366 rfl (fun z => by rw [((hS _).1 z).2 _ (List.mem_of_getElem? (i := 9) rfl)]; rfl) dX0_orders_20 ?_
  refine r_iload_n (j := 1) B dX0_orders_23 rfl rfl ?_
  obtain ⟨r9, s10, hc11, h⟩ := bnd_e h
  obtain ⟨hg12, h⟩ := gp_e h
  refine r_callI (As := [vr (some 19), vi (si s 0 11)]) (rest := [vr (some (sn s3))]) B rfl rfl (EX.noSk (fun _ => (hS _).2 hg12)) (c_X20_init B.ge.noSk (fun _ => trivial) hc11) (cw_X20_init rfl rfl) rfl q1416 q1417 rfl dX0_orders_24 ?_
  refine r_astore_n (L' := [(0, vr (some 0)), (1, vi (si s 0 11)), (2, vr (some (sn s3)))]) B dX0_orders_27 rfl (by decide) rfl rfl rfl ?_
  refine r_aload_n (j := 0) B dX0_orders_28 rfl rfl ?_
  refine r_aload_n (j := 2) B dX0_orders_29 rfl rfl ?_
  obtain ⟨r13, s14, hc15, h⟩ := bnd_e h
  refine r_callVW (As := [vr (some (sn s3))]) (rest := []) B rfl rfl EX.same (c_X0_reads B.ge hS hc15) (cw_X0_reads rfl rfl) (fun z => RV.of 0 (by rw [((hS _).1 z).1 0 (by decide)]; rfl) rfl rfl qs14) q731 q733 rfl dX0_orders_30 ?_
  refine r_if_ne (tgt := 43) B dX0_orders_33 (by decide) (fun cn16 => ?_) (fun cn16 => ?_)
  · have h := of cn16 h
    refine r_aload_n (j := 0) B dX0_orders_43 rfl rfl ?_
    refine g0 (k := 2) B (vr (some 2)) rfl (fun z => by rw [((hS _).1 z).1 0 (by decide)]; rfl) rfl q358 rfl (fun z => by rw [((hS _).1 z).2 _ (List.mem_of_getElem? (i := 1) rfl)]; rfl) dX0_orders_44 ?_
    refine g1N (k := 0) B (vr (some 3)) rfl (fun z => by rw [((hS _).1 z).1 2 (by decide)]; rfl) rfl (lw_n q206 rfl) rfl (fun z => by rw [((hS _).1 z).2 _ (List.mem_of_getElem? (i := 17) rfl)]; rfl) dX0_orders_47 ?_
    refine r_iconst (v := 0) B dX0_orders_50 (by decide) ?_
    refine r_aload_n (j := 0) B dX0_orders_51 rfl rfl ?_
    refine g0 (k := 8) B (vr (some 17)) rfl (fun z => by rw [((hS _).1 z).1 0 (by decide)]; rfl) rfl q364 rfl (fun z => by rw [((hS _).1 z).2 _ (List.mem_of_getElem? (i := 7) rfl)]; rfl) dX0_orders_52 ?_
    refine r_iconst (v := 0) B dX0_orders_55 (by decide) ?_
    refine r_bipush (v := 6) B dX0_orders_56 (by decide) ?_
    obtain ⟨hg17, h⟩ := gd_e h
    obtain ⟨s18, e19, h⟩ := nam_e h
    refine r_copyI B e19 rfl rfl (fun z => ((hS _).1 z).1 3 (by decide)) (fun z => ((hS _).1 z).1 17 (by decide)) hg17 q1221 q461 q460 q157 (by decide) (by decide) rfl dX0_orders_58 ?_
    refine r_aload_n (j := 0) B dX0_orders_61 rfl rfl ?_
    refine g0 (k := 2) B (vr (some 2)) rfl (fun z => by rw [((hS _).1 z).1 0 (by decide)]; rfl) rfl q358 rfl (fun z => by rw [((hS _).1 z).2 _ (List.mem_of_getElem? (i := 1) rfl)]; rfl) dX0_orders_62 ?_
    refine g1N (k := 4) B (vr (some 7)) rfl (fun z => by rw [((hS _).1 z).1 2 (by decide)]; rfl) rfl (lw_n q214 rfl) rfl (fun z => by rw [((hS _).1 z).2 _ (List.mem_of_getElem? (i := 21) rfl)]; rfl) dX0_orders_65 ?_
    refine r_iconst (v := 0) B dX0_orders_68 (by decide) ?_
    refine r_aload_n (j := 0) B dX0_orders_69 rfl rfl ?_
    refine g0 (k := 9) B (vr (some 18)) rfl (fun z => by rw [((hS _).1 z).1 0 (by decide)]; rfl) rfl q365 rfl (fun z => by rw [((hS _).1 z).2 _ (List.mem_of_getElem? (i := 8) rfl)]; rfl) dX0_orders_70 ?_
    refine r_iconst (v := 0) B dX0_orders_73 (by decide) ?_
    refine r_bipush (v := 6) B dX0_orders_74 (by decide) ?_
    obtain ⟨hg20, h⟩ := gd_e h
    obtain ⟨s21, e22, h⟩ := nam_e h
    refine r_copyI B e22 rfl rfl (fun z => ((hS _).1 z).1 7 (by decide)) (fun z => ((hS _).1 z).1 18 (by decide)) hg20 q1221 q461 q460 q157 (by decide) (by decide) rfl dX0_orders_76 ?_
    refine r_aload_n (j := 0) B dX0_orders_79 rfl rfl ?_
    refine g0 (k := 4) B (vr (some 13)) rfl (fun z => by rw [((hS _).1 z).1 0 (by decide)]; rfl) rfl q360 rfl (fun z => by rw [((hS _).1 z).2 _ (List.mem_of_getElem? (i := 3) rfl)]; rfl) dX0_orders_80 ?_
    refine r_iconst (v := 0) B dX0_orders_83 (by decide) ?_
    refine r_aload_n (j := 0) B dX0_orders_84 rfl rfl ?_
    refine g0 (k := 6) B (vr (some 15)) rfl (fun z => by rw [((hS _).1 z).1 0 (by decide)]; rfl) rfl q362 rfl (fun z => by rw [((hS _).1 z).2 _ (List.mem_of_getElem? (i := 5) rfl)]; rfl) dX0_orders_85 ?_
    refine r_iconst (v := 0) B dX0_orders_88 (by decide) ?_
    refine r_bipush (v := 96) B dX0_orders_89 (by decide) ?_
    obtain ⟨hg23, h⟩ := gd_e h
    obtain ⟨s24, e25, h⟩ := nam_e h
    refine r_copyI B e25 rfl rfl (fun z => ((hS _).1 z).1 13 (by decide)) (fun z => ((hS _).1 z).1 15 (by decide)) hg23 q1221 q461 q460 q157 (by decide) (by decide) rfl dX0_orders_91 ?_
    refine r_aload_n (j := 0) B dX0_orders_94 rfl rfl ?_
    refine g0 (k := 5) B (vr (some 14)) rfl (fun z => by rw [((hS _).1 z).1 0 (by decide)]; rfl) rfl q361 rfl (fun z => by rw [((hS _).1 z).2 _ (List.mem_of_getElem? (i := 4) rfl)]; rfl) dX0_orders_95 ?_
    refine r_iconst (v := 0) B dX0_orders_98 (by decide) ?_
    refine r_aload_n (j := 0) B dX0_orders_99 rfl rfl ?_
    refine g0 (k := 7) B (vr (some 16)) rfl (fun z => by rw [((hS _).1 z).1 0 (by decide)]; rfl) rfl q363 rfl (fun z => by rw [((hS _).1 z).2 _ (List.mem_of_getElem? (i := 6) rfl)]; rfl) dX0_orders_100 ?_
    refine r_iconst (v := 0) B dX0_orders_103 (by decide) ?_
    refine r_bipush (v := 16) B dX0_orders_104 (by decide) ?_
    obtain ⟨hg26, h⟩ := gd_e h
    obtain ⟨s27, e28, h⟩ := nam_e h
    refine r_copyI B e28 rfl rfl (fun z => ((hS _).1 z).1 14 (by decide)) (fun z => ((hS _).1 z).1 16 (by decide)) hg26 q1221 q461 q460 q157 (by decide) (by decide) rfl dX0_orders_106 ?_
    refine r_aload_n (j := 0) B dX0_orders_109 rfl rfl ?_
    refine g0 (k := 15) B (vi (si s27 0 15)) rfl (fun z => by rw [((hS _).1 z).1 0 (by decide)]; rfl) rfl q371 rfl (fun _ => rfl) dX0_orders_110 ?_
    refine r_istore_n (L' := [(0, vr (some 0)), (1, vi (si s 0 11)), (2, vr (some (sn s3))), (3, vi (si s27 0 15))]) B dX0_orders_113 rfl (by decide) rfl rfl rfl ?_
    refine r_iconst (v := 0) B dX0_orders_114 (by decide) ?_
    refine r_istore (L' := [(0, vr (some 0)), (1, vi (si s 0 11)), (2, vr (some (sn s3))), (3, vi (si s27 0 15)), (4, vi (0 : Int32))]) B dX0_orders_115 (by decide) rfl rfl rfl ?_
    refine r_iconst (v := -1) B dX0_orders_117 (by decide) ?_
    refine r_istore (L' := [(0, vr (some 0)), (1, vi (si s 0 11)), (2, vr (some (sn s3))), (3, vi (si s27 0 15)), (4, vi (0 : Int32)), (5, vi (-1 : Int32))]) B dX0_orders_118 (by decide) rfl rfl rfl ?_
    refine r_iconst (v := 0) B dX0_orders_120 (by decide) ?_
    refine r_istore (L' := [(0, vr (some 0)), (1, vi (si s 0 11)), (2, vr (some (sn s3))), (3, vi (si s27 0 15)), (4, vi (0 : Int32)), (5, vi (-1 : Int32)), (6, vi (0 : Int32))]) B dX0_orders_121 (by decide) rfl rfl rfl ?_
    refine r_pick [0, 2, 3, 4, 5, 6] (L' := [(0, vr (some 0)), (2, vr (some (sn s3))), (3, vi (si s27 0 15)), (4, vi (0 : Int32)), (5, vi (-1 : Int32)), (6, vi (0 : Int32))]) rfl ?_
    exact w_X0_orders_123 B hS FU s27 (some (sn s3)) (si s27 0 15) (0 : Int32) (-1 : Int32) (0 : Int32) h
  · have h := ot cn16 h
    refine r_aload_n (j := 0) B dX0_orders_36 rfl rfl ?_
    refine r_bipush (v := -6) B dX0_orders_37 (by decide) ?_
    obtain ⟨r29, s30, hc31, h⟩ := bnd_e h
    refine r_callVv (As := [vi (-6 : Int32)]) (rest := []) B rfl rfl EX.same (c_X0_refuse B.ge hS hc31) (cw_X0_refuse rfl rfl) (fun z => RV.of 0 (by rw [((hS _).1 z).1 0 (by decide)]; rfl) rfl rfl qs1) q448 q450 rfl dX0_orders_39 ?_
    exact r_iret B dX0_orders_42 h
set_option maxHeartbeats 4000000 in
theorem cw_X0_orders {X : CX} {fr lo : Nat} (h1 : Nat.ble (402 + 1) fr = true) (h2 : Nat.ble (29 + 20042) lo = true) : CW X fr lo yX0_orders cX0_orders 10 (some .int) 402 20042 0 := ⟨q1413, q126, ⟨by decide +kernel, by decide +kernel, by decide +kernel⟩, Nat.le_of_ble_eq_true h1, Nat.le_of_ble_eq_true h2⟩

set_option maxHeartbeats 4000000 in
noncomputable def F_X0_draw (s : St) (p0 : Int32) : Option (Int32 × St) := nam (setI s 0 27 ((((((((si s 0 27)).toInt64) * (1103 : Int64)) + (12345 : Int64)) - (((((si s 0 27)).toInt64) * (1103 : Int64)) + (12345 : Int64)) / (1000003 : Int64) * (1000003 : Int64))).toInt32)) fun s1 => gd (nzi p0) <| some (((si s1 0 27) - (si s1 0 27) / p0 * p0), s1)
set_option maxHeartbeats 4000000 in
theorem c_X0_draw {l : Launch} {E : EV} (hE : GE E) (hS : ∀ σ, eSk E σ ↔ SkC σ) {s s' : St} {r : Int32} {p0 : Int32} (h : F_X0_draw  s p0 = some (r, s')) : CT l E yX0_draw cX0_draw 2 (some .int) 0 0 [vr (some 0), vi p0] s (some (vi r)) s' := by
  refine CT.start hE (by decide) rfl [(0, vr (some 0)), (1, vi p0)] rfl (fun X hX B => ?_)
  skip
  have B : FX X E cX0_draw 2 (some .int) "RoseThrow" "draw" (sn s) (ss s) 0 0 := B
  unfold F_X0_draw at h
  refine r_aload_n (j := 0) B dX0_draw_0 rfl rfl ?_
  refine r_aload_n (j := 0) B dX0_draw_1 rfl rfl ?_
  refine g0 (k := 27) B (vi (si s 0 27)) rfl (fun z => by rw [((hS _).1 z).1 0 (by decide)]; rfl) rfl q383 rfl (fun _ => rfl) dX0_draw_2 ?_
  refine r_i2l B dX0_draw_5 ?_
  refine r_ldc2 B dX0_draw_6 q1469 ?_
  refine r_lmul B dX0_draw_9 ?_
  refine r_ldc2 B dX0_draw_10 q1470 ?_
  refine r_ladd B dX0_draw_13 ?_
  refine r_ldc2 B dX0_draw_14 q1471 ?_
  refine r_lrem B dX0_draw_17 (by decide) ?_
  refine r_l2i B dX0_draw_18 ?_
  obtain ⟨s1, e2, h⟩ := nam_e h
  refine pI0 (k := 27) B e2 rfl (fun z => by rw [((hS _).1 z).1 0 (by decide)]; rfl) rfl q383 rfl rfl (fun _ _ _ => rfl) rfl dX0_draw_19 ?_
  refine r_aload_n (j := 0) B dX0_draw_22 rfl rfl ?_
  refine g0 (k := 27) B (vi (si s1 0 27)) rfl (fun z => by rw [((hS _).1 z).1 0 (by decide)]; rfl) rfl q383 rfl (fun _ => rfl) dX0_draw_23 ?_
  refine r_iload_n (j := 1) B dX0_draw_26 rfl rfl ?_
  obtain ⟨hg3, h⟩ := gd_e h
  refine r_irem B dX0_draw_27 (nzi_e hg3) ?_
  exact r_iret B dX0_draw_28 h
set_option maxHeartbeats 4000000 in
theorem cw_X0_draw {X : CX} {fr lo : Nat} (h1 : Nat.ble (0 + 1) fr = true) (h2 : Nat.ble (21 + 0) lo = true) : CW X fr lo yX0_draw cX0_draw 2 (some .int) 0 0 1 := ⟨q1468, q126, ⟨by decide +kernel, by decide +kernel, by decide +kernel⟩, Nat.le_of_ble_eq_true h1, Nat.le_of_ble_eq_true h2⟩

set_option maxHeartbeats 4000000 in
noncomputable def F_X0_holder_63 : Nat → St → Int32 → Int32 → Int32 → Option (Int32 × St)
  | 0 => fun _ _ _ _ => none
  | n + 1 => fun s x1 x3 x4 => if (si s 2 8) ≤ x4 then (some ((-1 : Int32), s)) else (bnd (F_X0_partOf s x4 (some 3) x1) fun r2 s3 => if r2 = 0 then (F_X0_holder_63  n s3 x1 x3 (x4 + (1))) else (if x3 = 0 then (some (x4, s3)) else (F_X0_holder_63  n s3 x1 (x3 + (-1)) (x4 + (1)))))
set_option maxHeartbeats 4000000 in
theorem w_X0_holder_63 {X : CX} {E : EV} {a0 s' : St} {r : Int32} (B : FX X E cX0_holder 5 (some .int) "RoseThrow" "holder" (sn a0) (ss a0) 4 133) (hS : ∀ σ, eSk E σ ↔ SkC σ) : ∀ (n : Nat) (s : St) (x1 : Int32) (x3 : Int32) (x4 : Int32), F_X0_holder_63   n s x1 x3 x4 = some (r, s') → J X E (sn a0) (ss a0) 5 (QR X E a0 (some (vi r)) s') s 63 [(0, vr (some 0)), (1, vi x1), (3, vi x3), (4, vi x4)] [] := by
  intro n
  induction n with
  | zero => intro s x1 x3 x4 h; exact absurd (show (none : Option (Int32 × St)) = _ from h) (by simp)
  | succ n ih =>
    intro s x1 x3 x4 h
    rw [F_X0_holder_63] at h
    refine r_iload (j := 3) B dX0_holder_63 rfl ?_
    refine r_aload_n (j := 0) B dX0_holder_65 rfl rfl ?_
    refine g0 (k := 2) B (vr (some 2)) rfl (fun z => by rw [((hS _).1 z).1 0 (by decide)]; rfl) rfl q358 rfl (fun z => by rw [((hS _).1 z).2 _ (List.mem_of_getElem? (i := 1) rfl)]; rfl) dX0_holder_66 ?_
    refine g1N (k := 8) B (vi (si s 2 8)) rfl (fun z => by rw [((hS _).1 z).1 2 (by decide)]; rfl) rfl (lw_n q222 rfl) rfl (fun _ => rfl) dX0_holder_69 ?_
    refine r_ic_ge (tgt := 111) B dX0_holder_72 (by decide) (fun cn1 => ?_) (fun cn1 => ?_)
    · have h := ot cn1 h
      refine r_iconst (v := -1) B dX0_holder_111 (by decide) ?_
      exact r_iret B dX0_holder_112 h
    · have h := of cn1 h
      refine r_aload_n (j := 0) B dX0_holder_75 rfl rfl ?_
      refine r_iload (j := 3) B dX0_holder_76 rfl ?_
      refine r_aload_n (j := 0) B dX0_holder_78 rfl rfl ?_
      refine g0 (k := 2) B (vr (some 2)) rfl (fun z => by rw [((hS _).1 z).1 0 (by decide)]; rfl) rfl q358 rfl (fun z => by rw [((hS _).1 z).2 _ (List.mem_of_getElem? (i := 1) rfl)]; rfl) dX0_holder_79 ?_
      refine g1N (k := 0) B (vr (some 3)) rfl (fun z => by rw [((hS _).1 z).1 2 (by decide)]; rfl) rfl (lw_n q206 rfl) rfl (fun z => by rw [((hS _).1 z).2 _ (List.mem_of_getElem? (i := 17) rfl)]; rfl) dX0_holder_82 ?_
      refine r_iload_n (j := 1) B dX0_holder_85 rfl rfl ?_
      obtain ⟨r2, s3, hc4, h⟩ := bnd_e h
      refine r_callVv (As := [vi x4, vr (some 3), vi x1]) (rest := []) B rfl rfl EX.same (c_X0_partOf B.ge hS hc4) (cw_X0_partOf rfl rfl) (fun z => RV.of 0 (by rw [((hS _).1 z).1 0 (by decide)]; rfl) rfl rfl qs31) q1295 q1297 rfl dX0_holder_86 ?_
      refine r_if_ne (tgt := 95) B dX0_holder_89 (by decide) (fun cn5 => ?_) (fun cn5 => ?_)
      · have h := of cn5 h
        refine r_iload_n (j := 2) B dX0_holder_95 rfl rfl ?_
        refine r_if_ne (tgt := 102) B dX0_holder_96 (by decide) (fun cn6 => ?_) (fun cn6 => ?_)
        · have h := of cn6 h
          refine r_iinc (j := 2) (v := (x3 + (-1))) (L' := [(0, vr (some 0)), (1, vi x1), (3, vi (x3 + (-1))), (4, vi x4)]) B dX0_holder_102 rfl rfl (by decide) rfl rfl rfl ?_
          refine r_iinc (j := 3) (v := (x4 + (1))) (L' := [(0, vr (some 0)), (1, vi x1), (3, vi (x3 + (-1))), (4, vi (x4 + (1)))]) B dX0_holder_105 rfl rfl (by decide) rfl rfl rfl ?_
          refine r_goto (tgt := 63) B dX0_holder_108 (by decide) ?_
          exact ih s3 x1 (x3 + (-1)) (x4 + (1)) h
        · have h := ot cn6 h
          refine r_iload (j := 3) B dX0_holder_99 rfl ?_
          exact r_iret B dX0_holder_101 h
      · have h := ot cn5 h
        refine r_goto (tgt := 105) B dX0_holder_92 (by decide) ?_
        refine r_iinc (j := 3) (v := (x4 + (1))) (L' := [(0, vr (some 0)), (1, vi x1), (3, vi x3), (4, vi (x4 + (1)))]) B dX0_holder_105 rfl rfl (by decide) rfl rfl rfl ?_
        refine r_goto (tgt := 63) B dX0_holder_108 (by decide) ?_
        exact ih s3 x1 x3 (x4 + (1)) h
set_option maxHeartbeats 4000000 in
noncomputable def F_X0_holder_4 : Nat → St → Int32 → Int32 → Int32 → Option (Int32 × St)
  | 0 => fun _ _ _ _ => none
  | n + 1 => fun s x1 x2 x3 => if (si s 2 8) ≤ x3 then (if x2 ≤ (1 : Int32) then (F_X0_holder_63 FU s x1 (0 : Int32) (0 : Int32)) else (bnd (F_X0_draw s x2) fun r3 s4 => F_X0_holder_63 FU s4 x1 r3 (0 : Int32))) else (bnd (F_X0_partOf s x3 (some 3) x1) fun r6 s7 => if r6 ≤ 0 then (F_X0_holder_4  n s7 x1 (x2 + (0 : Int32)) (x3 + (1))) else (F_X0_holder_4  n s7 x1 (x2 + (1 : Int32)) (x3 + (1))))
set_option maxHeartbeats 4000000 in
theorem w_X0_holder_4 {X : CX} {E : EV} {a0 s' : St} {r : Int32} (B : FX X E cX0_holder 5 (some .int) "RoseThrow" "holder" (sn a0) (ss a0) 4 133) (hS : ∀ σ, eSk E σ ↔ SkC σ) : ∀ (n : Nat) (s : St) (x1 : Int32) (x2 : Int32) (x3 : Int32), F_X0_holder_4   n s x1 x2 x3 = some (r, s') → J X E (sn a0) (ss a0) 5 (QR X E a0 (some (vi r)) s') s 4 [(0, vr (some 0)), (1, vi x1), (2, vi x2), (3, vi x3)] [] := by
  intro n
  induction n with
  | zero => intro s x1 x2 x3 h; exact absurd (show (none : Option (Int32 × St)) = _ from h) (by simp)
  | succ n ih =>
    intro s x1 x2 x3 h
    rw [F_X0_holder_4] at h
    refine r_iload_n (j := 3) B dX0_holder_4 rfl rfl ?_
    refine r_aload_n (j := 0) B dX0_holder_5 rfl rfl ?_
    refine g0 (k := 2) B (vr (some 2)) rfl (fun z => by rw [((hS _).1 z).1 0 (by decide)]; rfl) rfl q358 rfl (fun z => by rw [((hS _).1 z).2 _ (List.mem_of_getElem? (i := 1) rfl)]; rfl) dX0_holder_6 ?_
    refine g1N (k := 8) B (vi (si s 2 8)) rfl (fun z => by rw [((hS _).1 z).1 2 (by decide)]; rfl) rfl (lw_n q222 rfl) rfl (fun _ => rfl) dX0_holder_9 ?_
    refine r_ic_ge (tgt := 45) B dX0_holder_12 (by decide) (fun cn1 => ?_) (fun cn1 => ?_)
    · have h := ot cn1 h
      refine r_iload_n (j := 2) B dX0_holder_45 rfl rfl ?_
      refine r_iconst (v := 1) B dX0_holder_46 (by decide) ?_
      refine r_ic_le (tgt := 58) B dX0_holder_47 (by decide) (fun cn2 => ?_) (fun cn2 => ?_)
      · have h := ot cn2 h
        refine r_iconst (v := 0) B dX0_holder_58 (by decide) ?_
        refine r_istore_n (L' := [(0, vr (some 0)), (1, vi x1), (2, vi x2), (3, vi (0 : Int32))]) B dX0_holder_59 rfl (by decide) rfl rfl rfl ?_
        refine r_iconst (v := 0) B dX0_holder_60 (by decide) ?_
        refine r_istore (L' := [(0, vr (some 0)), (1, vi x1), (2, vi x2), (3, vi (0 : Int32)), (4, vi (0 : Int32))]) B dX0_holder_61 (by decide) rfl rfl rfl ?_
        refine r_pick [0, 1, 3, 4] (L' := [(0, vr (some 0)), (1, vi x1), (3, vi (0 : Int32)), (4, vi (0 : Int32))]) rfl ?_
        exact w_X0_holder_63 B hS FU s x1 (0 : Int32) (0 : Int32) h
      · have h := of cn2 h
        refine r_aload_n (j := 0) B dX0_holder_50 rfl rfl ?_
        refine r_iload_n (j := 2) B dX0_holder_51 rfl rfl ?_
        obtain ⟨r3, s4, hc5, h⟩ := bnd_e h
        refine r_callVv (As := [vi x2]) (rest := []) B rfl rfl EX.same (c_X0_draw B.ge hS hc5) (cw_X0_draw rfl rfl) (fun z => RV.of 0 (by rw [((hS _).1 z).1 0 (by decide)]; rfl) rfl rfl qs45) q1465 q1467 rfl dX0_holder_52 ?_
        refine r_goto (tgt := 59) B dX0_holder_55 (by decide) ?_
        refine r_istore_n (L' := [(0, vr (some 0)), (1, vi x1), (2, vi x2), (3, vi r3)]) B dX0_holder_59 rfl (by decide) rfl rfl rfl ?_
        refine r_iconst (v := 0) B dX0_holder_60 (by decide) ?_
        refine r_istore (L' := [(0, vr (some 0)), (1, vi x1), (2, vi x2), (3, vi r3), (4, vi (0 : Int32))]) B dX0_holder_61 (by decide) rfl rfl rfl ?_
        refine r_pick [0, 1, 3, 4] (L' := [(0, vr (some 0)), (1, vi x1), (3, vi r3), (4, vi (0 : Int32))]) rfl ?_
        exact w_X0_holder_63 B hS FU s4 x1 r3 (0 : Int32) h
    · have h := of cn1 h
      refine r_iload_n (j := 2) B dX0_holder_15 rfl rfl ?_
      refine r_aload_n (j := 0) B dX0_holder_16 rfl rfl ?_
      refine r_iload_n (j := 3) B dX0_holder_17 rfl rfl ?_
      refine r_aload_n (j := 0) B dX0_holder_18 rfl rfl ?_
      refine g0 (k := 2) B (vr (some 2)) rfl (fun z => by rw [((hS _).1 z).1 0 (by decide)]; rfl) rfl q358 rfl (fun z => by rw [((hS _).1 z).2 _ (List.mem_of_getElem? (i := 1) rfl)]; rfl) dX0_holder_19 ?_
      refine g1N (k := 0) B (vr (some 3)) rfl (fun z => by rw [((hS _).1 z).1 2 (by decide)]; rfl) rfl (lw_n q206 rfl) rfl (fun z => by rw [((hS _).1 z).2 _ (List.mem_of_getElem? (i := 17) rfl)]; rfl) dX0_holder_22 ?_
      refine r_iload_n (j := 1) B dX0_holder_25 rfl rfl ?_
      obtain ⟨r6, s7, hc8, h⟩ := bnd_e h
      refine r_callVv (As := [vi x3, vr (some 3), vi x1]) (rest := [vi x2]) B rfl rfl EX.same (c_X0_partOf B.ge hS hc8) (cw_X0_partOf rfl rfl) (fun z => RV.of 0 (by rw [((hS _).1 z).1 0 (by decide)]; rfl) rfl rfl qs31) q1295 q1297 rfl dX0_holder_26 ?_
      refine r_if_le (tgt := 36) B dX0_holder_29 (by decide) (fun cn9 => ?_) (fun cn9 => ?_)
      · have h := ot cn9 h
        refine r_iconst (v := 0) B dX0_holder_36 (by decide) ?_
        refine r_iadd B dX0_holder_37 ?_
        refine r_istore_n (L' := [(0, vr (some 0)), (1, vi x1), (2, vi (x2 + (0 : Int32))), (3, vi x3)]) B dX0_holder_38 rfl (by decide) rfl rfl rfl ?_
        refine r_iinc (j := 3) (v := (x3 + (1))) (L' := [(0, vr (some 0)), (1, vi x1), (2, vi (x2 + (0 : Int32))), (3, vi (x3 + (1)))]) B dX0_holder_39 rfl rfl (by decide) rfl rfl rfl ?_
        refine r_goto (tgt := 4) B dX0_holder_42 (by decide) ?_
        exact ih s7 x1 (x2 + (0 : Int32)) (x3 + (1)) h
      · have h := of cn9 h
        refine r_iconst (v := 1) B dX0_holder_32 (by decide) ?_
        refine r_goto (tgt := 37) B dX0_holder_33 (by decide) ?_
        refine r_iadd B dX0_holder_37 ?_
        refine r_istore_n (L' := [(0, vr (some 0)), (1, vi x1), (2, vi (x2 + (1 : Int32))), (3, vi x3)]) B dX0_holder_38 rfl (by decide) rfl rfl rfl ?_
        refine r_iinc (j := 3) (v := (x3 + (1))) (L' := [(0, vr (some 0)), (1, vi x1), (2, vi (x2 + (1 : Int32))), (3, vi (x3 + (1)))]) B dX0_holder_39 rfl rfl (by decide) rfl rfl rfl ?_
        refine r_goto (tgt := 4) B dX0_holder_42 (by decide) ?_
        exact ih s7 x1 (x2 + (1 : Int32)) (x3 + (1)) h
set_option maxHeartbeats 4000000 in
noncomputable def F_X0_holder (s : St) (p0 : Int32) : Option (Int32 × St) := F_X0_holder_4 FU s p0 (0 : Int32) (0 : Int32)
set_option maxHeartbeats 4000000 in
theorem c_X0_holder {l : Launch} {E : EV} (hE : GE E) (hS : ∀ σ, eSk E σ ↔ SkC σ) {s s' : St} {r : Int32} {p0 : Int32} (h : F_X0_holder  s p0 = some (r, s')) : CT l E yX0_holder cX0_holder 5 (some .int) 4 133 [vr (some 0), vi p0] s (some (vi r)) s' := by
  refine CT.start hE (by decide) rfl [(0, vr (some 0)), (1, vi p0)] rfl (fun X hX B => ?_)
  skip
  have B : FX X E cX0_holder 5 (some .int) "RoseThrow" "holder" (sn s) (ss s) 4 133 := B
  unfold F_X0_holder at h
  refine r_iconst (v := 0) B dX0_holder_0 (by decide) ?_
  refine r_istore_n (L' := [(0, vr (some 0)), (1, vi p0), (2, vi (0 : Int32))]) B dX0_holder_1 rfl (by decide) rfl rfl rfl ?_
  refine r_iconst (v := 0) B dX0_holder_2 (by decide) ?_
  refine r_istore_n (L' := [(0, vr (some 0)), (1, vi p0), (2, vi (0 : Int32)), (3, vi (0 : Int32))]) B dX0_holder_3 rfl (by decide) rfl rfl rfl ?_
  exact w_X0_holder_4 B hS FU s p0 (0 : Int32) (0 : Int32) h
set_option maxHeartbeats 4000000 in
theorem cw_X0_holder {X : CX} {fr lo : Nat} (h1 : Nat.ble (4 + 1) fr = true) (h2 : Nat.ble (24 + 133) lo = true) : CW X fr lo yX0_holder cX0_holder 5 (some .int) 4 133 1 := ⟨q1475, q126, ⟨by decide +kernel, by decide +kernel, by decide +kernel⟩, Nat.le_of_ble_eq_true h1, Nat.le_of_ble_eq_true h2⟩

set_option maxHeartbeats 4000000 in
noncomputable def F_X0_weddings_21 (s : St)  : Option (Int32 × St) := bnd (F_X0_refuse s (-1 : Int32)) fun r1 s2 => some (r1, s2)
set_option maxHeartbeats 4000000 in
theorem w_X0_weddings_21 {X : CX} {E : EV} {a0 s' : St} {r : Int32} (B : FX X E cX0_weddings 9 (some .int) "RoseThrow" "weddings" (sn a0) (ss a0) 246 13745) (hS : ∀ σ, eSk E σ ↔ SkC σ) (s : St)  (h : F_X0_weddings_21   s  = some (r, s')) : J X E (sn a0) (ss a0) 9 (QR X E a0 (some (vi r)) s') s 21 [(0, vr (some 0))] [] := by
  unfold F_X0_weddings_21 at h
  refine r_aload_n (j := 0) B dX0_weddings_21 rfl rfl ?_
  refine r_iconst (v := -1) B dX0_weddings_22 (by decide) ?_
  obtain ⟨r1, s2, hc3, h⟩ := bnd_e h
  refine r_callVv (As := [vi (-1 : Int32)]) (rest := []) B rfl rfl EX.same (c_X0_refuse B.ge hS hc3) (cw_X0_refuse rfl rfl) (fun z => RV.of 0 (by rw [((hS _).1 z).1 0 (by decide)]; rfl) rfl rfl qs1) q448 q450 rfl dX0_weddings_23 ?_
  exact r_iret B dX0_weddings_26 h
set_option maxHeartbeats 4000000 in
noncomputable def F_X0_weddings_274 : Nat → St → Int32 → Int32 → Option (Int32 × St)
  | 0 => fun _ _ _ => none
  | n + 1 => fun s x3 x4 => if (si s 2 8) ≤ x4 then (bnd (F_X0_done s x3) fun r2 s3 => some (r2, s3)) else (gd (inb x4 6) <| nam (x3 + (si s 30 x4.toNatClampNeg)) fun y6 => F_X0_weddings_274  n s y6 (x4 + (1)))
set_option maxHeartbeats 4000000 in
theorem w_X0_weddings_274 {X : CX} {E : EV} {a0 s' : St} {r : Int32} (B : FX X E cX0_weddings 9 (some .int) "RoseThrow" "weddings" (sn a0) (ss a0) 246 13745) (hS : ∀ σ, eSk E σ ↔ SkC σ) : ∀ (n : Nat) (s : St) (x3 : Int32) (x4 : Int32), F_X0_weddings_274   n s x3 x4 = some (r, s') → J X E (sn a0) (ss a0) 9 (QR X E a0 (some (vi r)) s') s 274 [(0, vr (some 0)), (3, vi x3), (4, vi x4)] [] := by
  intro n
  induction n with
  | zero => intro s x3 x4 h; exact absurd (show (none : Option (Int32 × St)) = _ from h) (by simp)
  | succ n ih =>
    intro s x3 x4 h
    rw [F_X0_weddings_274] at h
    refine r_iload (j := 2) B dX0_weddings_274 rfl ?_
    refine r_aload_n (j := 0) B dX0_weddings_276 rfl rfl ?_
    refine g0 (k := 2) B (vr (some 2)) rfl (fun z => by rw [((hS _).1 z).1 0 (by decide)]; rfl) rfl q358 rfl (fun z => by rw [((hS _).1 z).2 _ (List.mem_of_getElem? (i := 1) rfl)]; rfl) dX0_weddings_277 ?_
    refine g1N (k := 8) B (vi (si s 2 8)) rfl (fun z => by rw [((hS _).1 z).1 2 (by decide)]; rfl) rfl (lw_n q222 rfl) rfl (fun _ => rfl) dX0_weddings_280 ?_
    refine r_ic_ge (tgt := 302) B dX0_weddings_283 (by decide) (fun cn1 => ?_) (fun cn1 => ?_)
    · have h := ot cn1 h
      refine r_aload_n (j := 0) B dX0_weddings_302 rfl rfl ?_
      refine r_iload_n (j := 1) B dX0_weddings_303 rfl rfl ?_
      obtain ⟨r2, s3, hc4, h⟩ := bnd_e h
      refine r_callVv (As := [vi x3]) (rest := []) B rfl rfl EX.same (c_X0_done B.ge hS hc4) (cw_X0_done rfl rfl) (fun z => RV.of 0 (by rw [((hS _).1 z).1 0 (by decide)]; rfl) rfl rfl qs3) q533 q535 rfl dX0_weddings_304 ?_
      exact r_iret B dX0_weddings_307 h
    · have h := of cn1 h
      refine r_iload_n (j := 1) B dX0_weddings_286 rfl rfl ?_
      refine r_aload_n (j := 0) B dX0_weddings_287 rfl rfl ?_
      refine g0 (k := 25) B (vr (some 30)) rfl (fun z => by rw [((hS _).1 z).1 0 (by decide)]; rfl) rfl q381 rfl (fun z => by rw [((hS _).1 z).2 _ (List.mem_of_getElem? (i := 16) rfl)]; rfl) dX0_weddings_288 ?_
      refine r_iload (j := 2) B dX0_weddings_291 rfl ?_
      obtain ⟨hg5, h⟩ := gd_e h
      refine r_iald B rfl (fun z => ((hS _).1 z).1 30 (by decide)) hg5 dX0_weddings_293 ?_
      refine r_iadd B dX0_weddings_294 ?_
      obtain ⟨y6, e7, h⟩ := nam_e h
      refine r_topi e7 ?_
      refine r_istore_n (L' := [(0, vr (some 0)), (3, vi y6), (4, vi x4)]) B dX0_weddings_295 rfl (by decide) rfl rfl rfl ?_
      refine r_iinc (j := 2) (v := (x4 + (1))) (L' := [(0, vr (some 0)), (3, vi y6), (4, vi (x4 + (1)))]) B dX0_weddings_296 rfl rfl (by decide) rfl rfl rfl ?_
      refine r_goto (tgt := 274) B dX0_weddings_299 (by decide) ?_
      exact ih s y6 (x4 + (1)) h
set_option maxHeartbeats 4000000 in
noncomputable def F_X0_weddings_257 (k84 : St → Int32 → Int32 → Int32 → Option (Int32 × St)) (k209 : St → Int32 → Int32 → Int32 → Int32 → Int32 → Option (Int32 × St)) (s : St) (x2 : Int32) (x3 : Int32) (x4 : Int32) (x7 : Int32) (x8 : Int32) (z0 : Int32) (z1 : Int32) (z2 : Int32) : Option (Int32 × St) := gd (inb z2 6) <| nam (setI s 30 z2.toNatClampNeg (z1 + z0)) fun s2 => k209 s2 x2 x3 x4 x7 (x8 + (1))
set_option maxHeartbeats 4000000 in
theorem w_X0_weddings_257 {X : CX} {E : EV} {a0 s' : St} {r : Int32} (B : FX X E cX0_weddings 9 (some .int) "RoseThrow" "weddings" (sn a0) (ss a0) 246 13745) (hS : ∀ σ, eSk E σ ↔ SkC σ) (k84 : St → Int32 → Int32 → Int32 → Option (Int32 × St)) (k209 : St → Int32 → Int32 → Int32 → Int32 → Int32 → Option (Int32 × St)) (hk84 : ∀ (s : St) (x2 : Int32) (x3 : Int32) (x4 : Int32), k84 s x2 x3 x4 = some (r, s') → J X E (sn a0) (ss a0) 9 (QR X E a0 (some (vi r)) s') s 84 [(0, vr (some 0)), (2, vi x2), (3, vi x3), (4, vi x4)] []) (hk209 : ∀ (s : St) (x2 : Int32) (x3 : Int32) (x4 : Int32) (x7 : Int32) (x8 : Int32), k209 s x2 x3 x4 x7 x8 = some (r, s') → J X E (sn a0) (ss a0) 9 (QR X E a0 (some (vi r)) s') s 209 [(0, vr (some 0)), (2, vi x2), (3, vi x3), (4, vi x4), (7, vi x7), (8, vi x8)] []) (s : St) (x2 : Int32) (x3 : Int32) (x4 : Int32) (x7 : Int32) (x8 : Int32) (z0 : Int32) (z1 : Int32) (z2 : Int32) (h : F_X0_weddings_257  k84 k209 s x2 x3 x4 x7 x8 z0 z1 z2 = some (r, s')) : J X E (sn a0) (ss a0) 9 (QR X E a0 (some (vi r)) s') s 257 [(0, vr (some 0)), (2, vi x2), (3, vi x3), (4, vi x4), (7, vi x7), (8, vi x8)] [vi z0, vi z1, vi z2, vr (some 30)] := by
  unfold F_X0_weddings_257 at h
  refine r_iadd B dX0_weddings_257 ?_
  obtain ⟨hg1, h⟩ := gd_e h
  obtain ⟨s2, e3, h⟩ := nam_e h
  refine r_iast B e3 rfl (fun z => ((hS _).1 z).1 30 (by decide)) hg1 dX0_weddings_258 ?_
  refine r_iinc (j := 5) (v := (x8 + (1))) (L' := [(0, vr (some 0)), (2, vi x2), (3, vi x3), (4, vi x4), (7, vi x7), (8, vi (x8 + (1)))]) B dX0_weddings_259 rfl rfl (by decide) rfl rfl rfl ?_
  refine r_goto (tgt := 209) B dX0_weddings_262 (by decide) ?_
  exact hk209 s2 x2 x3 x4 x7 (x8 + (1)) h
set_option maxHeartbeats 4000000 in
noncomputable def F_X0_weddings_209 (k84 : St → Int32 → Int32 → Int32 → Option (Int32 × St)) : Nat → St → Int32 → Int32 → Int32 → Int32 → Int32 → Option (Int32 × St)
  | 0 => fun _ _ _ _ _ _ => none
  | n + 1 => fun s x2 x3 x4 x7 x8 => if (si s 2 8) ≤ x8 then (k84 s x2 x3 (x4 + (1))) else (if x8 = x7 then (F_X0_weddings_209 k84 n s x2 x3 x4 x7 (x8 + (1))) else (gd (inb x8 6) <| bnd (F_X0_draw s (100 : Int32)) fun r4 s5 => bnd (F_X0_wed s5 x8 (0 : Int32)) fun r7 s8 => if r7 ≤ r4 then (F_X0_weddings_257 k84 (F_X0_weddings_209 k84 n) s8 x2 x3 x4 x7 x8 (0 : Int32) (si s 30 x8.toNatClampNeg) x8) else (F_X0_weddings_257 k84 (F_X0_weddings_209 k84 n) s8 x2 x3 x4 x7 x8 (1 : Int32) (si s 30 x8.toNatClampNeg) x8)))
set_option maxHeartbeats 4000000 in
theorem w_X0_weddings_209 {X : CX} {E : EV} {a0 s' : St} {r : Int32} (B : FX X E cX0_weddings 9 (some .int) "RoseThrow" "weddings" (sn a0) (ss a0) 246 13745) (hS : ∀ σ, eSk E σ ↔ SkC σ) (k84 : St → Int32 → Int32 → Int32 → Option (Int32 × St)) (hk84 : ∀ (s : St) (x2 : Int32) (x3 : Int32) (x4 : Int32), k84 s x2 x3 x4 = some (r, s') → J X E (sn a0) (ss a0) 9 (QR X E a0 (some (vi r)) s') s 84 [(0, vr (some 0)), (2, vi x2), (3, vi x3), (4, vi x4)] []) : ∀ (n : Nat) (s : St) (x2 : Int32) (x3 : Int32) (x4 : Int32) (x7 : Int32) (x8 : Int32), F_X0_weddings_209  k84 n s x2 x3 x4 x7 x8 = some (r, s') → J X E (sn a0) (ss a0) 9 (QR X E a0 (some (vi r)) s') s 209 [(0, vr (some 0)), (2, vi x2), (3, vi x3), (4, vi x4), (7, vi x7), (8, vi x8)] [] := by
  intro n
  induction n with
  | zero => intro s x2 x3 x4 x7 x8 h; exact absurd (show (none : Option (Int32 × St)) = _ from h) (by simp)
  | succ n ih =>
    intro s x2 x3 x4 x7 x8 h
    rw [F_X0_weddings_209] at h
    refine r_iload (j := 5) B dX0_weddings_209 rfl ?_
    refine r_aload_n (j := 0) B dX0_weddings_211 rfl rfl ?_
    refine g0 (k := 2) B (vr (some 2)) rfl (fun z => by rw [((hS _).1 z).1 0 (by decide)]; rfl) rfl q358 rfl (fun z => by rw [((hS _).1 z).2 _ (List.mem_of_getElem? (i := 1) rfl)]; rfl) dX0_weddings_212 ?_
    refine g1N (k := 8) B (vi (si s 2 8)) rfl (fun z => by rw [((hS _).1 z).1 2 (by decide)]; rfl) rfl (lw_n q222 rfl) rfl (fun _ => rfl) dX0_weddings_215 ?_
    refine r_ic_ge (tgt := 265) B dX0_weddings_218 (by decide) (fun cn1 => ?_) (fun cn1 => ?_)
    · have h := ot cn1 h
      refine r_iinc (j := 3) (v := (x4 + (1))) (L' := [(0, vr (some 0)), (2, vi x2), (3, vi x3), (4, vi (x4 + (1))), (7, vi x7), (8, vi x8)]) B dX0_weddings_265 rfl rfl (by decide) rfl rfl rfl ?_
      refine r_goto (tgt := 84) B dX0_weddings_268 (by decide) ?_
      refine r_pick [0, 1, 2, 3] (L' := [(0, vr (some 0)), (2, vi x2), (3, vi x3), (4, vi (x4 + (1)))]) rfl ?_
      exact hk84 s x2 x3 (x4 + (1)) h
    · have h := of cn1 h
      refine r_iload (j := 5) B dX0_weddings_221 rfl ?_
      refine r_iload (j := 4) B dX0_weddings_223 rfl ?_
      refine r_ic_eq (tgt := 259) B dX0_weddings_225 (by decide) (fun cn2 => ?_) (fun cn2 => ?_)
      · have h := ot cn2 h
        refine r_iinc (j := 5) (v := (x8 + (1))) (L' := [(0, vr (some 0)), (2, vi x2), (3, vi x3), (4, vi x4), (7, vi x7), (8, vi (x8 + (1)))]) B dX0_weddings_259 rfl rfl (by decide) rfl rfl rfl ?_
        refine r_goto (tgt := 209) B dX0_weddings_262 (by decide) ?_
        exact ih s x2 x3 x4 x7 (x8 + (1)) h
      · have h := of cn2 h
        refine r_aload_n (j := 0) B dX0_weddings_228 rfl rfl ?_
        refine g0 (k := 25) B (vr (some 30)) rfl (fun z => by rw [((hS _).1 z).1 0 (by decide)]; rfl) rfl q381 rfl (fun z => by rw [((hS _).1 z).2 _ (List.mem_of_getElem? (i := 16) rfl)]; rfl) dX0_weddings_229 ?_
        refine r_iload (j := 5) B dX0_weddings_232 rfl ?_
        refine r_dup2 B dX0_weddings_234 rfl rfl ?_
        obtain ⟨hg3, h⟩ := gd_e h
        refine r_iald B rfl (fun z => ((hS _).1 z).1 30 (by decide)) hg3 dX0_weddings_235 ?_
        refine r_aload_n (j := 0) B dX0_weddings_236 rfl rfl ?_
        refine r_bipush (v := 100) B dX0_weddings_237 (by decide) ?_
        obtain ⟨r4, s5, hc6, h⟩ := bnd_e h
        refine r_callVv (As := [vi (100 : Int32)]) (rest := [vi (si s 30 x8.toNatClampNeg), vi x8, vr (some 30)]) B rfl rfl EX.same (c_X0_draw B.ge hS hc6) (cw_X0_draw rfl rfl) (fun z => RV.of 0 (by rw [((hS _).1 z).1 0 (by decide)]; rfl) rfl rfl qs45) q1465 q1467 rfl dX0_weddings_239 ?_
        refine r_aload_n (j := 0) B dX0_weddings_242 rfl rfl ?_
        refine r_iload (j := 5) B dX0_weddings_243 rfl ?_
        refine r_iconst (v := 0) B dX0_weddings_245 (by decide) ?_
        obtain ⟨r7, s8, hc9, h⟩ := bnd_e h
        refine r_callVv (As := [vi x8, vi (0 : Int32)]) (rest := [vi r4, vi (si s 30 x8.toNatClampNeg), vi x8, vr (some 30)]) B rfl rfl EX.same (c_X0_wed B.ge hS hc9) (cw_X0_wed rfl rfl) (fun z => RV.of 0 (by rw [((hS _).1 z).1 0 (by decide)]; rfl) rfl rfl qs18) q1197 q1199 rfl dX0_weddings_246 ?_
        refine r_ic_ge (tgt := 256) B dX0_weddings_249 (by decide) (fun cn10 => ?_) (fun cn10 => ?_)
        · have h := ot cn10 h
          refine r_iconst (v := 0) B dX0_weddings_256 (by decide) ?_
          exact w_X0_weddings_257 B hS k84 (F_X0_weddings_209 k84 n) hk84 ih s8 x2 x3 x4 x7 x8 (0 : Int32) (si s 30 x8.toNatClampNeg) x8 h
        · have h := of cn10 h
          refine r_iconst (v := 1) B dX0_weddings_252 (by decide) ?_
          refine r_goto (tgt := 257) B dX0_weddings_253 (by decide) ?_
          exact w_X0_weddings_257 B hS k84 (F_X0_weddings_209 k84 n) hk84 ih s8 x2 x3 x4 x7 x8 (1 : Int32) (si s 30 x8.toNatClampNeg) x8 h
set_option maxHeartbeats 4000000 in
noncomputable def F_X0_weddings_204 (k84 : St → Int32 → Int32 → Int32 → Option (Int32 × St)) (s : St) (x2 : Int32) (x3 : Int32) (x4 : Int32) (x7 : Int32) (z0 : Int32) (z1 : Int32) (z2 : Int32) : Option (Int32 × St) := gd (inb z2 6) <| nam (setI s 30 z2.toNatClampNeg (z1 + z0)) fun s2 => F_X0_weddings_209 k84 FU s2 x2 x3 x4 x7 (0 : Int32)
set_option maxHeartbeats 4000000 in
theorem w_X0_weddings_204 {X : CX} {E : EV} {a0 s' : St} {r : Int32} (B : FX X E cX0_weddings 9 (some .int) "RoseThrow" "weddings" (sn a0) (ss a0) 246 13745) (hS : ∀ σ, eSk E σ ↔ SkC σ) (k84 : St → Int32 → Int32 → Int32 → Option (Int32 × St)) (hk84 : ∀ (s : St) (x2 : Int32) (x3 : Int32) (x4 : Int32), k84 s x2 x3 x4 = some (r, s') → J X E (sn a0) (ss a0) 9 (QR X E a0 (some (vi r)) s') s 84 [(0, vr (some 0)), (2, vi x2), (3, vi x3), (4, vi x4)] []) (s : St) (x2 : Int32) (x3 : Int32) (x4 : Int32) (x7 : Int32) (z0 : Int32) (z1 : Int32) (z2 : Int32) (h : F_X0_weddings_204  k84 s x2 x3 x4 x7 z0 z1 z2 = some (r, s')) : J X E (sn a0) (ss a0) 9 (QR X E a0 (some (vi r)) s') s 204 [(0, vr (some 0)), (2, vi x2), (3, vi x3), (4, vi x4), (7, vi x7)] [vi z0, vi z1, vi z2, vr (some 30)] := by
  unfold F_X0_weddings_204 at h
  refine r_iadd B dX0_weddings_204 ?_
  obtain ⟨hg1, h⟩ := gd_e h
  obtain ⟨s2, e3, h⟩ := nam_e h
  refine r_iast B e3 rfl (fun z => ((hS _).1 z).1 30 (by decide)) hg1 dX0_weddings_205 ?_
  refine r_iconst (v := 0) B dX0_weddings_206 (by decide) ?_
  refine r_istore (L' := [(0, vr (some 0)), (2, vi x2), (3, vi x3), (4, vi x4), (7, vi x7), (8, vi (0 : Int32))]) B dX0_weddings_207 (by decide) rfl rfl rfl ?_
  exact w_X0_weddings_209 B hS k84 hk84 FU s2 x2 x3 x4 x7 (0 : Int32) h
set_option maxHeartbeats 4000000 in
noncomputable def F_X0_weddings_106 (k84 : St → Int32 → Int32 → Int32 → Option (Int32 × St)) : Nat → St → Int32 → Int32 → Int32 → Int32 → Int32 → Option (Int32 × St)
  | 0 => fun _ _ _ _ _ _ => none
  | n + 1 => fun s x2 x3 x4 x5 x6 => gd (inb x6 9) <| if x5 < (si s 25 x6.toNatClampNeg) then (gd (inb x6 9) <| bnd (F_X0_holder s (si s 24 x6.toNatClampNeg)) fun r4 s5 => if r4 = (-1 : Int32) then (F_X0_weddings_209 k84 FU s5 x2 x3 x4 r4 (0 : Int32)) else (gd (inb r4 6) <| gd (inb r4 6) <| nam (setI s5 29 r4.toNatClampNeg ((si s5 29 r4.toNatClampNeg) + (1 : Int32))) fun s10 => gd (inb r4 6) <| bnd (F_X0_draw s10 (100 : Int32)) fun r13 s14 => bnd (F_X0_wed s14 r4 (1 : Int32)) fun r16 s17 => if r16 ≤ r13 then (F_X0_weddings_204 k84 s17 x2 x3 x4 r4 (0 : Int32) (si s10 30 r4.toNatClampNeg) r4) else (F_X0_weddings_204 k84 s17 x2 x3 x4 r4 (1 : Int32) (si s10 30 r4.toNatClampNeg) r4))) else (gd (inb x6 9) <| nam (x5 - (si s 25 x6.toNatClampNeg)) fun y21 => F_X0_weddings_106 k84 n s x2 x3 x4 y21 (x6 + (1)))
set_option maxHeartbeats 4000000 in
theorem w_X0_weddings_106 {X : CX} {E : EV} {a0 s' : St} {r : Int32} (B : FX X E cX0_weddings 9 (some .int) "RoseThrow" "weddings" (sn a0) (ss a0) 246 13745) (hS : ∀ σ, eSk E σ ↔ SkC σ) (k84 : St → Int32 → Int32 → Int32 → Option (Int32 × St)) (hk84 : ∀ (s : St) (x2 : Int32) (x3 : Int32) (x4 : Int32), k84 s x2 x3 x4 = some (r, s') → J X E (sn a0) (ss a0) 9 (QR X E a0 (some (vi r)) s') s 84 [(0, vr (some 0)), (2, vi x2), (3, vi x3), (4, vi x4)] []) : ∀ (n : Nat) (s : St) (x2 : Int32) (x3 : Int32) (x4 : Int32) (x5 : Int32) (x6 : Int32), F_X0_weddings_106  k84 n s x2 x3 x4 x5 x6 = some (r, s') → J X E (sn a0) (ss a0) 9 (QR X E a0 (some (vi r)) s') s 106 [(0, vr (some 0)), (2, vi x2), (3, vi x3), (4, vi x4), (5, vi x5), (6, vi x6)] [] := by
  intro n
  induction n with
  | zero => intro s x2 x3 x4 x5 x6 h; exact absurd (show (none : Option (Int32 × St)) = _ from h) (by simp)
  | succ n ih =>
    intro s x2 x3 x4 x5 x6 h
    rw [F_X0_weddings_106] at h
    refine r_iload (j := 4) B dX0_weddings_106 rfl ?_
    refine r_aload_n (j := 0) B dX0_weddings_108 rfl rfl ?_
    refine g0 (k := 17) B (vr (some 23)) rfl (fun z => by rw [((hS _).1 z).1 0 (by decide)]; rfl) rfl q373 rfl (fun z => by rw [((hS _).1 z).2 _ (List.mem_of_getElem? (i := 11) rfl)]; rfl) dX0_weddings_109 ?_
    refine g4N (k := 1) B (vr (some 25)) rfl (fun z => by rw [((hS _).1 z).1 23 (by decide)]; rfl) rfl (lw_n q338 rfl) rfl (fun z => by rw [((hS _).1 z).2 _ (List.mem_of_getElem? (i := 28) rfl)]; rfl) dX0_weddings_112 ?_
    refine r_iload (j := 5) B dX0_weddings_115 rfl ?_
    obtain ⟨hg1, h⟩ := gd_e h
    refine r_iald B rfl (fun z => ((hS _).1 z).1 25 (by decide)) hg1 dX0_weddings_117 ?_
    refine r_ic_lt (tgt := 142) B dX0_weddings_118 (by decide) (fun cn2 => ?_) (fun cn2 => ?_)
    · have h := ot cn2 h
      refine r_aload_n (j := 0) B dX0_weddings_142 rfl rfl ?_
      refine r_aload_n (j := 0) B dX0_weddings_143 rfl rfl ?_
      refine g0 (k := 17) B (vr (some 23)) rfl (fun z => by rw [((hS _).1 z).1 0 (by decide)]; rfl) rfl q373 rfl (fun z => by rw [((hS _).1 z).2 _ (List.mem_of_getElem? (i := 11) rfl)]; rfl) dX0_weddings_144 ?_
      refine g4N (k := 0) B (vr (some 24)) rfl (fun z => by rw [((hS _).1 z).1 23 (by decide)]; rfl) rfl (lw_n q336 rfl) rfl (fun z => by rw [((hS _).1 z).2 _ (List.mem_of_getElem? (i := 27) rfl)]; rfl) dX0_weddings_147 ?_
      refine r_iload (j := 5) B dX0_weddings_150 rfl ?_
      obtain ⟨hg3, h⟩ := gd_e h
      refine r_iald B rfl (fun z => ((hS _).1 z).1 24 (by decide)) hg3 dX0_weddings_152 ?_
      obtain ⟨r4, s5, hc6, h⟩ := bnd_e h
      refine r_callVv (As := [vi (si s 24 x6.toNatClampNeg)]) (rest := []) B rfl rfl EX.same (c_X0_holder B.ge hS hc6) (cw_X0_holder rfl rfl) (fun z => RV.of 0 (by rw [((hS _).1 z).1 0 (by decide)]; rfl) rfl rfl qs46) q1472 q1474 rfl dX0_weddings_153 ?_
      refine r_istore (L' := [(0, vr (some 0)), (2, vi x2), (3, vi x3), (4, vi x4), (5, vi x5), (6, vi x6), (7, vi r4)]) B dX0_weddings_156 (by decide) rfl rfl rfl ?_
      refine r_iload (j := 6) B dX0_weddings_158 rfl ?_
      refine r_iconst (v := -1) B dX0_weddings_160 (by decide) ?_
      refine r_ic_eq (tgt := 206) B dX0_weddings_161 (by decide) (fun cn7 => ?_) (fun cn7 => ?_)
      · have h := ot cn7 h
        refine r_iconst (v := 0) B dX0_weddings_206 (by decide) ?_
        refine r_istore (L' := [(0, vr (some 0)), (2, vi x2), (3, vi x3), (4, vi x4), (5, vi x5), (6, vi x6), (7, vi r4), (8, vi (0 : Int32))]) B dX0_weddings_207 (by decide) rfl rfl rfl ?_
        refine r_pick [0, 1, 2, 3, 6, 7] (L' := [(0, vr (some 0)), (2, vi x2), (3, vi x3), (4, vi x4), (7, vi r4), (8, vi (0 : Int32))]) rfl ?_
        exact w_X0_weddings_209 B hS k84 hk84 FU s5 x2 x3 x4 r4 (0 : Int32) h
      · have h := of cn7 h
        refine r_aload_n (j := 0) B dX0_weddings_164 rfl rfl ?_
        refine g0 (k := 24) B (vr (some 29)) rfl (fun z => by rw [((hS _).1 z).1 0 (by decide)]; rfl) rfl q380 rfl (fun z => by rw [((hS _).1 z).2 _ (List.mem_of_getElem? (i := 15) rfl)]; rfl) dX0_weddings_165 ?_
        refine r_iload (j := 6) B dX0_weddings_168 rfl ?_
        refine r_dup2 B dX0_weddings_170 rfl rfl ?_
        obtain ⟨hg8, h⟩ := gd_e h
        refine r_iald B rfl (fun z => ((hS _).1 z).1 29 (by decide)) hg8 dX0_weddings_171 ?_
        refine r_iconst (v := 1) B dX0_weddings_172 (by decide) ?_
        refine r_iadd B dX0_weddings_173 ?_
        obtain ⟨hg9, h⟩ := gd_e h
        obtain ⟨s10, e11, h⟩ := nam_e h
        refine r_iast B e11 rfl (fun z => ((hS _).1 z).1 29 (by decide)) hg9 dX0_weddings_174 ?_
        refine r_aload_n (j := 0) B dX0_weddings_175 rfl rfl ?_
        refine g0 (k := 25) B (vr (some 30)) rfl (fun z => by rw [((hS _).1 z).1 0 (by decide)]; rfl) rfl q381 rfl (fun z => by rw [((hS _).1 z).2 _ (List.mem_of_getElem? (i := 16) rfl)]; rfl) dX0_weddings_176 ?_
        refine r_iload (j := 6) B dX0_weddings_179 rfl ?_
        refine r_dup2 B dX0_weddings_181 rfl rfl ?_
        obtain ⟨hg12, h⟩ := gd_e h
        refine r_iald B rfl (fun z => ((hS _).1 z).1 30 (by decide)) hg12 dX0_weddings_182 ?_
        refine r_aload_n (j := 0) B dX0_weddings_183 rfl rfl ?_
        refine r_bipush (v := 100) B dX0_weddings_184 (by decide) ?_
        obtain ⟨r13, s14, hc15, h⟩ := bnd_e h
        refine r_callVv (As := [vi (100 : Int32)]) (rest := [vi (si s10 30 r4.toNatClampNeg), vi r4, vr (some 30)]) B rfl rfl EX.same (c_X0_draw B.ge hS hc15) (cw_X0_draw rfl rfl) (fun z => RV.of 0 (by rw [((hS _).1 z).1 0 (by decide)]; rfl) rfl rfl qs45) q1465 q1467 rfl dX0_weddings_186 ?_
        refine r_aload_n (j := 0) B dX0_weddings_189 rfl rfl ?_
        refine r_iload (j := 6) B dX0_weddings_190 rfl ?_
        refine r_iconst (v := 1) B dX0_weddings_192 (by decide) ?_
        obtain ⟨r16, s17, hc18, h⟩ := bnd_e h
        refine r_callVv (As := [vi r4, vi (1 : Int32)]) (rest := [vi r13, vi (si s10 30 r4.toNatClampNeg), vi r4, vr (some 30)]) B rfl rfl EX.same (c_X0_wed B.ge hS hc18) (cw_X0_wed rfl rfl) (fun z => RV.of 0 (by rw [((hS _).1 z).1 0 (by decide)]; rfl) rfl rfl qs18) q1197 q1199 rfl dX0_weddings_193 ?_
        refine r_ic_ge (tgt := 203) B dX0_weddings_196 (by decide) (fun cn19 => ?_) (fun cn19 => ?_)
        · have h := ot cn19 h
          refine r_iconst (v := 0) B dX0_weddings_203 (by decide) ?_
          refine r_pick [0, 1, 2, 3, 6] (L' := [(0, vr (some 0)), (2, vi x2), (3, vi x3), (4, vi x4), (7, vi r4)]) rfl ?_
          exact w_X0_weddings_204 B hS k84 hk84 s17 x2 x3 x4 r4 (0 : Int32) (si s10 30 r4.toNatClampNeg) r4 h
        · have h := of cn19 h
          refine r_iconst (v := 1) B dX0_weddings_199 (by decide) ?_
          refine r_goto (tgt := 204) B dX0_weddings_200 (by decide) ?_
          refine r_pick [0, 1, 2, 3, 6] (L' := [(0, vr (some 0)), (2, vi x2), (3, vi x3), (4, vi x4), (7, vi r4)]) rfl ?_
          exact w_X0_weddings_204 B hS k84 hk84 s17 x2 x3 x4 r4 (1 : Int32) (si s10 30 r4.toNatClampNeg) r4 h
    · have h := of cn2 h
      refine r_iload (j := 4) B dX0_weddings_121 rfl ?_
      refine r_aload_n (j := 0) B dX0_weddings_123 rfl rfl ?_
      refine g0 (k := 17) B (vr (some 23)) rfl (fun z => by rw [((hS _).1 z).1 0 (by decide)]; rfl) rfl q373 rfl (fun z => by rw [((hS _).1 z).2 _ (List.mem_of_getElem? (i := 11) rfl)]; rfl) dX0_weddings_124 ?_
      refine g4N (k := 1) B (vr (some 25)) rfl (fun z => by rw [((hS _).1 z).1 23 (by decide)]; rfl) rfl (lw_n q338 rfl) rfl (fun z => by rw [((hS _).1 z).2 _ (List.mem_of_getElem? (i := 28) rfl)]; rfl) dX0_weddings_127 ?_
      refine r_iload (j := 5) B dX0_weddings_130 rfl ?_
      obtain ⟨hg20, h⟩ := gd_e h
      refine r_iald B rfl (fun z => ((hS _).1 z).1 25 (by decide)) hg20 dX0_weddings_132 ?_
      refine r_isub B dX0_weddings_133 ?_
      obtain ⟨y21, e22, h⟩ := nam_e h
      refine r_topi e22 ?_
      refine r_istore (L' := [(0, vr (some 0)), (2, vi x2), (3, vi x3), (4, vi x4), (5, vi y21), (6, vi x6)]) B dX0_weddings_134 (by decide) rfl rfl rfl ?_
      refine r_iinc (j := 5) (v := (x6 + (1))) (L' := [(0, vr (some 0)), (2, vi x2), (3, vi x3), (4, vi x4), (5, vi y21), (6, vi (x6 + (1)))]) B dX0_weddings_136 rfl rfl (by decide) rfl rfl rfl ?_
      refine r_goto (tgt := 106) B dX0_weddings_139 (by decide) ?_
      exact ih s x2 x3 x4 y21 (x6 + (1)) h
set_option maxHeartbeats 4000000 in
noncomputable def F_X0_weddings_84 : Nat → St → Int32 → Int32 → Int32 → Option (Int32 × St)
  | 0 => fun _ _ _ _ => none
  | n + 1 => fun s x2 x3 x4 => if x2 ≤ x4 then (F_X0_weddings_274 FU s x3 (0 : Int32)) else (bnd (F_X0_draw s (si s 23 3)) fun r2 s3 => F_X0_weddings_106 (F_X0_weddings_84  n) FU s3 x2 x3 x4 r2 (0 : Int32))
set_option maxHeartbeats 4000000 in
theorem w_X0_weddings_84 {X : CX} {E : EV} {a0 s' : St} {r : Int32} (B : FX X E cX0_weddings 9 (some .int) "RoseThrow" "weddings" (sn a0) (ss a0) 246 13745) (hS : ∀ σ, eSk E σ ↔ SkC σ) : ∀ (n : Nat) (s : St) (x2 : Int32) (x3 : Int32) (x4 : Int32), F_X0_weddings_84   n s x2 x3 x4 = some (r, s') → J X E (sn a0) (ss a0) 9 (QR X E a0 (some (vi r)) s') s 84 [(0, vr (some 0)), (2, vi x2), (3, vi x3), (4, vi x4)] [] := by
  intro n
  induction n with
  | zero => intro s x2 x3 x4 h; exact absurd (show (none : Option (Int32 × St)) = _ from h) (by simp)
  | succ n ih =>
    intro s x2 x3 x4 h
    rw [F_X0_weddings_84] at h
    refine r_iload (j := 3) B dX0_weddings_84 rfl ?_
    refine r_iload_n (j := 1) B dX0_weddings_86 rfl rfl ?_
    refine r_ic_ge (tgt := 271) B dX0_weddings_87 (by decide) (fun cn1 => ?_) (fun cn1 => ?_)
    · have h := ot cn1 h
      refine r_iconst (v := 0) B dX0_weddings_271 (by decide) ?_
      refine r_istore (L' := [(0, vr (some 0)), (2, vi x2), (3, vi x3), (4, vi (0 : Int32))]) B dX0_weddings_272 (by decide) rfl rfl rfl ?_
      refine r_pick [0, 2, 3] (L' := [(0, vr (some 0)), (3, vi x3), (4, vi (0 : Int32))]) rfl ?_
      exact w_X0_weddings_274 B hS FU s x3 (0 : Int32) h
    · have h := of cn1 h
      refine r_aload_n (j := 0) B dX0_weddings_90 rfl rfl ?_
      refine r_aload_n (j := 0) B dX0_weddings_91 rfl rfl ?_
      refine g0 (k := 17) B (vr (some 23)) rfl (fun z => by rw [((hS _).1 z).1 0 (by decide)]; rfl) rfl q373 rfl (fun z => by rw [((hS _).1 z).2 _ (List.mem_of_getElem? (i := 11) rfl)]; rfl) dX0_weddings_92 ?_
      refine g4N (k := 3) B (vi (si s 23 3)) rfl (fun z => by rw [((hS _).1 z).1 23 (by decide)]; rfl) rfl (lw_n q342 rfl) rfl (fun _ => rfl) dX0_weddings_95 ?_
      obtain ⟨r2, s3, hc4, h⟩ := bnd_e h
      refine r_callVv (As := [vi (si s 23 3)]) (rest := []) B rfl rfl EX.same (c_X0_draw B.ge hS hc4) (cw_X0_draw rfl rfl) (fun z => RV.of 0 (by rw [((hS _).1 z).1 0 (by decide)]; rfl) rfl rfl qs45) q1465 q1467 rfl dX0_weddings_98 ?_
      refine r_istore (L' := [(0, vr (some 0)), (2, vi x2), (3, vi x3), (4, vi x4), (5, vi r2)]) B dX0_weddings_101 (by decide) rfl rfl rfl ?_
      refine r_iconst (v := 0) B dX0_weddings_103 (by decide) ?_
      refine r_istore (L' := [(0, vr (some 0)), (2, vi x2), (3, vi x3), (4, vi x4), (5, vi r2), (6, vi (0 : Int32))]) B dX0_weddings_104 (by decide) rfl rfl rfl ?_
      exact w_X0_weddings_106 B hS (F_X0_weddings_84  n) ih FU s3 x2 x3 x4 r2 (0 : Int32) h
set_option maxHeartbeats 4000000 in
noncomputable def F_X0_weddings_52 : Nat → St → Int32 → Int32 → Int32 → Option (Int32 × St)
  | 0 => fun _ _ _ _ => none
  | n + 1 => fun s x2 x3 x4 => if (6 : Int32) ≤ x4 then (F_X0_weddings_84 FU s x2 x3 (0 : Int32)) else (gd (inb x4 6) <| nam (setI s 29 x4.toNatClampNeg (0 : Int32)) fun s3 => gd (inb x4 6) <| nam (setI s3 30 x4.toNatClampNeg (0 : Int32)) fun s6 => F_X0_weddings_52  n s6 x2 x3 (x4 + (1)))
set_option maxHeartbeats 4000000 in
theorem w_X0_weddings_52 {X : CX} {E : EV} {a0 s' : St} {r : Int32} (B : FX X E cX0_weddings 9 (some .int) "RoseThrow" "weddings" (sn a0) (ss a0) 246 13745) (hS : ∀ σ, eSk E σ ↔ SkC σ) : ∀ (n : Nat) (s : St) (x2 : Int32) (x3 : Int32) (x4 : Int32), F_X0_weddings_52   n s x2 x3 x4 = some (r, s') → J X E (sn a0) (ss a0) 9 (QR X E a0 (some (vi r)) s') s 52 [(0, vr (some 0)), (2, vi x2), (3, vi x3), (4, vi x4)] [] := by
  intro n
  induction n with
  | zero => intro s x2 x3 x4 h; exact absurd (show (none : Option (Int32 × St)) = _ from h) (by simp)
  | succ n ih =>
    intro s x2 x3 x4 h
    rw [F_X0_weddings_52] at h
    refine r_iload (j := 3) B dX0_weddings_52 rfl ?_
    refine r_bipush (v := 6) B dX0_weddings_54 (by decide) ?_
    refine r_ic_ge (tgt := 81) B dX0_weddings_56 (by decide) (fun cn1 => ?_) (fun cn1 => ?_)
    · have h := ot cn1 h
      refine r_iconst (v := 0) B dX0_weddings_81 (by decide) ?_
      refine r_istore (L' := [(0, vr (some 0)), (2, vi x2), (3, vi x3), (4, vi (0 : Int32))]) B dX0_weddings_82 (by decide) rfl rfl rfl ?_
      exact w_X0_weddings_84 B hS FU s x2 x3 (0 : Int32) h
    · have h := of cn1 h
      refine r_aload_n (j := 0) B dX0_weddings_59 rfl rfl ?_
      refine g0 (k := 24) B (vr (some 29)) rfl (fun z => by rw [((hS _).1 z).1 0 (by decide)]; rfl) rfl q380 rfl (fun z => by rw [((hS _).1 z).2 _ (List.mem_of_getElem? (i := 15) rfl)]; rfl) dX0_weddings_60 ?_
      refine r_iload (j := 3) B dX0_weddings_63 rfl ?_
      refine r_iconst (v := 0) B dX0_weddings_65 (by decide) ?_
      obtain ⟨hg2, h⟩ := gd_e h
      obtain ⟨s3, e4, h⟩ := nam_e h
      refine r_iast B e4 rfl (fun z => ((hS _).1 z).1 29 (by decide)) hg2 dX0_weddings_66 ?_
      refine r_aload_n (j := 0) B dX0_weddings_67 rfl rfl ?_
      refine g0 (k := 25) B (vr (some 30)) rfl (fun z => by rw [((hS _).1 z).1 0 (by decide)]; rfl) rfl q381 rfl (fun z => by rw [((hS _).1 z).2 _ (List.mem_of_getElem? (i := 16) rfl)]; rfl) dX0_weddings_68 ?_
      refine r_iload (j := 3) B dX0_weddings_71 rfl ?_
      refine r_iconst (v := 0) B dX0_weddings_73 (by decide) ?_
      obtain ⟨hg5, h⟩ := gd_e h
      obtain ⟨s6, e7, h⟩ := nam_e h
      refine r_iast B e7 rfl (fun z => ((hS _).1 z).1 30 (by decide)) hg5 dX0_weddings_74 ?_
      refine r_iinc (j := 3) (v := (x4 + (1))) (L' := [(0, vr (some 0)), (2, vi x2), (3, vi x3), (4, vi (x4 + (1)))]) B dX0_weddings_75 rfl rfl (by decide) rfl rfl rfl ?_
      refine r_goto (tgt := 52) B dX0_weddings_78 (by decide) ?_
      exact ih s6 x2 x3 (x4 + (1)) h
set_option maxHeartbeats 4000000 in
noncomputable def F_X0_weddings (s : St) (p0 : Int32) (p1 : Int32) : Option (Int32 × St) := bnd (F_X0_in s p0 (0 : Int32) (1000000 : Int32)) fun r1 s2 => if r1 = 0 then (F_X0_weddings_21 s2) else (bnd (F_X0_in s2 p1 (1 : Int32) (100 : Int32)) fun r5 s6 => if r5 = 0 then (F_X0_weddings_21 s6) else (bnd (F_X0_looks s6) fun _ s10 => nam (setI s10 0 27 p0) fun s12 => nam (setI s12 0 26 (si s12 2 8)) fun s14 => F_X0_weddings_52 FU s14 p1 (0 : Int32) (0 : Int32)))
set_option maxHeartbeats 4000000 in
theorem c_X0_weddings {l : Launch} {E : EV} (hE : GE E) (hS : ∀ σ, eSk E σ ↔ SkC σ) {s s' : St} {r : Int32} {p0 : Int32} {p1 : Int32} (h : F_X0_weddings  s p0 p1 = some (r, s')) : CT l E yX0_weddings cX0_weddings 9 (some .int) 246 13745 [vr (some 0), vi p0, vi p1] s (some (vi r)) s' := by
  refine CT.start hE (by decide) rfl [(0, vr (some 0)), (1, vi p0), (2, vi p1)] rfl (fun X hX B => ?_)
  skip
  have B : FX X E cX0_weddings 9 (some .int) "RoseThrow" "weddings" (sn s) (ss s) 246 13745 := B
  unfold F_X0_weddings at h
  refine r_iload_n (j := 1) B dX0_weddings_0 rfl rfl ?_
  refine r_iconst (v := 0) B dX0_weddings_1 (by decide) ?_
  refine r_ldcw B dX0_weddings_2 q1464 ?_
  obtain ⟨r1, s2, hc3, h⟩ := bnd_e h
  refine r_callSv (As := [vi p0, vi (0 : Int32), vi (1000000 : Int32)]) (rest := []) B rfl EX.same (c_X0_in B.ge hS hc3) (cw_X0_in rfl rfl) q445 q446 rfl dX0_weddings_5 ?_
  refine r_if_eq (tgt := 21) B dX0_weddings_8 (by decide) (fun cn4 => ?_) (fun cn4 => ?_)
  · have h := ot cn4 h
    refine r_pick [0] (L' := [(0, vr (some 0))]) rfl ?_
    exact w_X0_weddings_21 B hS s2 h
  · have h := of cn4 h
    refine r_iload_n (j := 2) B dX0_weddings_11 rfl rfl ?_
    refine r_iconst (v := 1) B dX0_weddings_12 (by decide) ?_
    refine r_bipush (v := 100) B dX0_weddings_13 (by decide) ?_
    obtain ⟨r5, s6, hc7, h⟩ := bnd_e h
    refine r_callSv (As := [vi p1, vi (1 : Int32), vi (100 : Int32)]) (rest := []) B rfl EX.same (c_X0_in B.ge hS hc7) (cw_X0_in rfl rfl) q445 q446 rfl dX0_weddings_15 ?_
    refine r_if_ne (tgt := 27) B dX0_weddings_18 (by decide) (fun cn8 => ?_) (fun cn8 => ?_)
    · have h := of cn8 h
      refine r_aload_n (j := 0) B dX0_weddings_27 rfl rfl ?_
      obtain ⟨r9, s10, hc11, h⟩ := bnd_e h
      refine r_callV0 (As := []) (rest := []) B rfl rfl EX.same (c_X0_looks B.ge hS hc11) (cw_X0_looks rfl rfl) (fun z => RV.of 0 (by rw [((hS _).1 z).1 0 (by decide)]; rfl) rfl rfl qs26) q1253 q1255 rfl dX0_weddings_28 ?_
      refine r_aload_n (j := 0) B dX0_weddings_31 rfl rfl ?_
      refine r_iload_n (j := 1) B dX0_weddings_32 rfl rfl ?_
      obtain ⟨s12, e13, h⟩ := nam_e h
      refine pI0 (k := 27) B e13 rfl (fun z => by rw [((hS _).1 z).1 0 (by decide)]; rfl) rfl q383 rfl rfl (fun _ _ _ => rfl) rfl dX0_weddings_33 ?_
      refine r_aload_n (j := 0) B dX0_weddings_36 rfl rfl ?_
      refine r_aload_n (j := 0) B dX0_weddings_37 rfl rfl ?_
      refine g0 (k := 2) B (vr (some 2)) rfl (fun z => by rw [((hS _).1 z).1 0 (by decide)]; rfl) rfl q358 rfl (fun z => by rw [((hS _).1 z).2 _ (List.mem_of_getElem? (i := 1) rfl)]; rfl) dX0_weddings_38 ?_
      refine g1N (k := 8) B (vi (si s12 2 8)) rfl (fun z => by rw [((hS _).1 z).1 2 (by decide)]; rfl) rfl (lw_n q222 rfl) rfl (fun _ => rfl) dX0_weddings_41 ?_
      obtain ⟨s14, e15, h⟩ := nam_e h
      refine pI0 (k := 26) B e15 rfl (fun z => by rw [((hS _).1 z).1 0 (by decide)]; rfl) rfl q382 rfl rfl (fun _ _ _ => rfl) rfl dX0_weddings_44 ?_
      refine r_iconst (v := 0) B dX0_weddings_47 (by decide) ?_
      refine r_istore_n (L' := [(0, vr (some 0)), (1, vi p0), (2, vi p1), (3, vi (0 : Int32))]) B dX0_weddings_48 rfl (by decide) rfl rfl rfl ?_
      refine r_iconst (v := 0) B dX0_weddings_49 (by decide) ?_
      refine r_istore (L' := [(0, vr (some 0)), (1, vi p0), (2, vi p1), (3, vi (0 : Int32)), (4, vi (0 : Int32))]) B dX0_weddings_50 (by decide) rfl rfl rfl ?_
      refine r_pick [0, 2, 3, 4] (L' := [(0, vr (some 0)), (2, vi p1), (3, vi (0 : Int32)), (4, vi (0 : Int32))]) rfl ?_
      exact w_X0_weddings_52 B hS FU s14 p1 (0 : Int32) (0 : Int32) h
    · have h := ot cn8 h
      refine r_pick [0] (L' := [(0, vr (some 0))]) rfl ?_
      exact w_X0_weddings_21 B hS s6 h
set_option maxHeartbeats 4000000 in
theorem cw_X0_weddings {X : CX} {fr lo : Nat} (h1 : Nat.ble (246 + 1) fr = true) (h2 : Nat.ble (28 + 13745) lo = true) : CW X fr lo yX0_weddings cX0_weddings 9 (some .int) 246 13745 2 := ⟨q1463, q126, ⟨by decide +kernel, by decide +kernel, by decide +kernel⟩, Nat.le_of_ble_eq_true h1, Nat.le_of_ble_eq_true h2⟩

set_option maxHeartbeats 4000000 in
noncomputable def F_X0_drawn_23 (s : St)  : Option (Int32 × St) := some ((-1 : Int32), s)
set_option maxHeartbeats 4000000 in
theorem w_X0_drawn_23 {X : CX} {E : EV} {a0 s' : St} {r : Int32} (B : FX X E cX0_drawn 3 (some .int) "RoseThrow" "drawn" (sn a0) (ss a0) 1 22) (hS : ∀ σ, eSk E σ ↔ SkC σ) (s : St)  (h : F_X0_drawn_23   s  = some (r, s')) : J X E (sn a0) (ss a0) 3 (QR X E a0 (some (vi r)) s') s 23 [] [] := by
  unfold F_X0_drawn_23 at h
  refine r_iconst (v := -1) B dX0_drawn_23 (by decide) ?_
  refine r_goto (tgt := 46) B dX0_drawn_24 (by decide) ?_
  exact r_iret B dX0_drawn_46 h
set_option maxHeartbeats 4000000 in
noncomputable def F_X0_drawn (s : St) (p0 : Int32) (p1 : Int32) : Option (Int32 × St) := bnd (F_X0_in s p0 (0 : Int32) ((si s 0 26) - (1 : Int32))) fun r1 s2 => if r1 = 0 then (F_X0_drawn_23 s2) else (bnd (F_X0_in s2 p1 (0 : Int32) (1 : Int32)) fun r5 s6 => if r5 = 0 then (F_X0_drawn_23 s6) else (if p1 = 0 then (gd (inb p0 6) <| some ((si s6 29 p0.toNatClampNeg), s6)) else (gd (inb p0 6) <| some ((si s6 30 p0.toNatClampNeg), s6))))
set_option maxHeartbeats 4000000 in
theorem c_X0_drawn {l : Launch} {E : EV} (hE : GE E) (hS : ∀ σ, eSk E σ ↔ SkC σ) {s s' : St} {r : Int32} {p0 : Int32} {p1 : Int32} (h : F_X0_drawn  s p0 p1 = some (r, s')) : CT l E yX0_drawn cX0_drawn 3 (some .int) 1 22 [vr (some 0), vi p0, vi p1] s (some (vi r)) s' := by
  refine CT.start hE (by decide) rfl [(0, vr (some 0)), (1, vi p0), (2, vi p1)] rfl (fun X hX B => ?_)
  skip
  have B : FX X E cX0_drawn 3 (some .int) "RoseThrow" "drawn" (sn s) (ss s) 1 22 := B
  unfold F_X0_drawn at h
  refine r_iload_n (j := 1) B dX0_drawn_0 rfl rfl ?_
  refine r_iconst (v := 0) B dX0_drawn_1 (by decide) ?_
  refine r_aload_n (j := 0) B dX0_drawn_2 rfl rfl ?_
  refine g0 (k := 26) B (vi (si s 0 26)) rfl (fun z => by rw [((hS _).1 z).1 0 (by decide)]; rfl) rfl q382 rfl (fun _ => rfl) dX0_drawn_3 ?_
  refine r_iconst (v := 1) B dX0_drawn_6 (by decide) ?_
  refine r_isub B dX0_drawn_7 ?_
  obtain ⟨r1, s2, hc3, h⟩ := bnd_e h
  refine r_callSv (As := [vi p0, vi (0 : Int32), vi ((si s 0 26) - (1 : Int32))]) (rest := []) B rfl EX.same (c_X0_in B.ge hS hc3) (cw_X0_in rfl rfl) q445 q446 rfl dX0_drawn_8 ?_
  refine r_if_eq (tgt := 23) B dX0_drawn_11 (by decide) (fun cn4 => ?_) (fun cn4 => ?_)
  · have h := ot cn4 h
    refine r_pick [] (L' := []) rfl ?_
    exact w_X0_drawn_23 B hS s2 h
  · have h := of cn4 h
    refine r_iload_n (j := 2) B dX0_drawn_14 rfl rfl ?_
    refine r_iconst (v := 0) B dX0_drawn_15 (by decide) ?_
    refine r_iconst (v := 1) B dX0_drawn_16 (by decide) ?_
    obtain ⟨r5, s6, hc7, h⟩ := bnd_e h
    refine r_callSv (As := [vi p1, vi (0 : Int32), vi (1 : Int32)]) (rest := []) B rfl EX.same (c_X0_in B.ge hS hc7) (cw_X0_in rfl rfl) q445 q446 rfl dX0_drawn_17 ?_
    refine r_if_ne (tgt := 27) B dX0_drawn_20 (by decide) (fun cn8 => ?_) (fun cn8 => ?_)
    · have h := of cn8 h
      refine r_iload_n (j := 2) B dX0_drawn_27 rfl rfl ?_
      refine r_if_ne (tgt := 40) B dX0_drawn_28 (by decide) (fun cn9 => ?_) (fun cn9 => ?_)
      · have h := of cn9 h
        refine r_aload_n (j := 0) B dX0_drawn_40 rfl rfl ?_
        refine g0 (k := 25) B (vr (some 30)) rfl (fun z => by rw [((hS _).1 z).1 0 (by decide)]; rfl) rfl q381 rfl (fun z => by rw [((hS _).1 z).2 _ (List.mem_of_getElem? (i := 16) rfl)]; rfl) dX0_drawn_41 ?_
        refine r_iload_n (j := 1) B dX0_drawn_44 rfl rfl ?_
        obtain ⟨hg10, h⟩ := gd_e h
        refine r_iald B rfl (fun z => ((hS _).1 z).1 30 (by decide)) hg10 dX0_drawn_45 ?_
        exact r_iret B dX0_drawn_46 h
      · have h := ot cn9 h
        refine r_aload_n (j := 0) B dX0_drawn_31 rfl rfl ?_
        refine g0 (k := 24) B (vr (some 29)) rfl (fun z => by rw [((hS _).1 z).1 0 (by decide)]; rfl) rfl q380 rfl (fun z => by rw [((hS _).1 z).2 _ (List.mem_of_getElem? (i := 15) rfl)]; rfl) dX0_drawn_32 ?_
        refine r_iload_n (j := 1) B dX0_drawn_35 rfl rfl ?_
        obtain ⟨hg11, h⟩ := gd_e h
        refine r_iald B rfl (fun z => ((hS _).1 z).1 29 (by decide)) hg11 dX0_drawn_36 ?_
        refine r_goto (tgt := 46) B dX0_drawn_37 (by decide) ?_
        exact r_iret B dX0_drawn_46 h
    · have h := ot cn8 h
      refine r_pick [] (L' := []) rfl ?_
      exact w_X0_drawn_23 B hS s6 h
set_option maxHeartbeats 4000000 in
theorem cw_X0_drawn {X : CX} {fr lo : Nat} (h1 : Nat.ble (1 + 1) fr = true) (h2 : Nat.ble (22 + 22) lo = true) : CW X fr lo yX0_drawn cX0_drawn 3 (some .int) 1 22 2 := ⟨q1479, q126, ⟨by decide +kernel, by decide +kernel, by decide +kernel⟩, Nat.le_of_ble_eq_true h1, Nat.le_of_ble_eq_true h2⟩

set_option maxHeartbeats 4000000 in
noncomputable def F_X0_count_97 (s : St) (x1 : Int32) : Option (Int32 × St) := gd (inb (x1 - (4 : Int32)) 7) <| some ((si s 1 (x1 - (4 : Int32)).toNatClampNeg), s)
set_option maxHeartbeats 4000000 in
theorem w_X0_count_97 {X : CX} {E : EV} {a0 s' : St} {r : Int32} (B : FX X E cX0_count 2 (some .int) "RoseThrow" "count" (sn a0) (ss a0) 1 22) (hS : ∀ σ, eSk E σ ↔ SkC σ) (s : St) (x1 : Int32) (h : F_X0_count_97   s x1 = some (r, s')) : J X E (sn a0) (ss a0) 2 (QR X E a0 (some (vi r)) s') s 97 [(0, vr (some 0)), (1, vi x1)] [] := by
  unfold F_X0_count_97 at h
  refine r_aload_n (j := 0) B dX0_count_97 rfl rfl ?_
  refine g0 (k := 1) B (vr (some 1)) rfl (fun z => by rw [((hS _).1 z).1 0 (by decide)]; rfl) rfl q357 rfl (fun z => by rw [((hS _).1 z).2 _ (List.mem_of_getElem? (i := 0) rfl)]; rfl) dX0_count_98 ?_
  refine r_iload_n (j := 1) B dX0_count_101 rfl rfl ?_
  refine r_iconst (v := 4) B dX0_count_102 (by decide) ?_
  refine r_isub B dX0_count_103 ?_
  obtain ⟨hg1, h⟩ := gd_e h
  refine r_iald B rfl (fun z => ((hS _).1 z).1 1 (by decide)) hg1 dX0_count_104 ?_
  exact r_iret B dX0_count_105 h
set_option maxHeartbeats 4000000 in
noncomputable def F_X0_count_106 (s : St) (x1 : Int32) : Option (Int32 × St) := gd (inb (x1 - (3 : Int32)) 7) <| some ((si s 1 (x1 - (3 : Int32)).toNatClampNeg), s)
set_option maxHeartbeats 4000000 in
theorem w_X0_count_106 {X : CX} {E : EV} {a0 s' : St} {r : Int32} (B : FX X E cX0_count 2 (some .int) "RoseThrow" "count" (sn a0) (ss a0) 1 22) (hS : ∀ σ, eSk E σ ↔ SkC σ) (s : St) (x1 : Int32) (h : F_X0_count_106   s x1 = some (r, s')) : J X E (sn a0) (ss a0) 2 (QR X E a0 (some (vi r)) s') s 106 [(0, vr (some 0)), (1, vi x1)] [] := by
  unfold F_X0_count_106 at h
  refine r_aload_n (j := 0) B dX0_count_106 rfl rfl ?_
  refine g0 (k := 1) B (vr (some 1)) rfl (fun z => by rw [((hS _).1 z).1 0 (by decide)]; rfl) rfl q357 rfl (fun z => by rw [((hS _).1 z).2 _ (List.mem_of_getElem? (i := 0) rfl)]; rfl) dX0_count_107 ?_
  refine r_iload_n (j := 1) B dX0_count_110 rfl rfl ?_
  refine r_iconst (v := 3) B dX0_count_111 (by decide) ?_
  refine r_isub B dX0_count_112 ?_
  obtain ⟨hg1, h⟩ := gd_e h
  refine r_iald B rfl (fun z => ((hS _).1 z).1 1 (by decide)) hg1 dX0_count_113 ?_
  exact r_iret B dX0_count_114 h
set_option maxHeartbeats 4000000 in
noncomputable def F_X0_count (s : St) (p0 : Int32) : Option (Int32 × St) := (if p0 = (0 : Int32) then (some ((si s 2 8), s)) else (if p0 = (1 : Int32) then (some ((si s 2 9), s)) else (if p0 = (2 : Int32) then (bnd (F_J2_size s 10) fun r1 s2 => gp (SkC s2) <| some (r1, s2)) else (if p0 = (3 : Int32) then (some ((si s 0 15), s)) else (if p0 = (4 : Int32) then (some ((si s 0 11), s)) else (if p0 = (5 : Int32) then (F_X0_count_97 s p0) else (if p0 = (6 : Int32) then (F_X0_count_97 s p0) else (if p0 = (7 : Int32) then (F_X0_count_97 s p0) else (if p0 = (8 : Int32) then (F_X0_count_106 s p0) else (if p0 = (9 : Int32) then (F_X0_count_106 s p0) else (if p0 = (10 : Int32) then (some ((si s 2 10), s)) else (bnd (F_X0_in s p0 (11 : Int32) (19 : Int32)) fun r5 s6 => if r5 = 0 then (some ((-1000 : Int32), s6)) else (bnd (F_X0_term s6 (p0 - (11 : Int32))) fun r9 s10 => some (r9, s10))))))))))))))
set_option maxHeartbeats 4000000 in
theorem c_X0_count {l : Launch} {E : EV} (hE : GE E) (hS : ∀ σ, eSk E σ ↔ SkC σ) {s s' : St} {r : Int32} {p0 : Int32} (h : F_X0_count  s p0 = some (r, s')) : CT l E yX0_count cX0_count 2 (some .int) 1 22 [vr (some 0), vi p0] s (some (vi r)) s' := by
  refine CT.start hE (by decide) rfl [(0, vr (some 0)), (1, vi p0)] rfl (fun X hX B => ?_)
  skip
  have B : FX X E cX0_count 2 (some .int) "RoseThrow" "count" (sn s) (ss s) 1 22 := B
  unfold F_X0_count at h
  refine r_iload_n (j := 1) B dX0_count_0 rfl rfl ?_
  by_cases c1_0 : p0 = (0 : Int32)
  · have h := ot c1_0 h
    refine r_tin (tgt := 60) B dX0_count_1 c1_0 (by decide) (by decide) (off := 59) (by decide) (by decide) ?_
    refine r_aload_n (j := 0) B dX0_count_60 rfl rfl ?_
    refine g0 (k := 2) B (vr (some 2)) rfl (fun z => by rw [((hS _).1 z).1 0 (by decide)]; rfl) rfl q358 rfl (fun z => by rw [((hS _).1 z).2 _ (List.mem_of_getElem? (i := 1) rfl)]; rfl) dX0_count_61 ?_
    refine g1N (k := 8) B (vi (si s 2 8)) rfl (fun z => by rw [((hS _).1 z).1 2 (by decide)]; rfl) rfl (lw_n q222 rfl) rfl (fun _ => rfl) dX0_count_64 ?_
    exact r_iret B dX0_count_67 h
  · have h := of c1_0 h
    by_cases c1_1 : p0 = (1 : Int32)
    · have h := ot c1_1 h
      refine r_tin (tgt := 68) B dX0_count_1 c1_1 (by decide) (by decide) (off := 67) (by decide) (by decide) ?_
      refine r_aload_n (j := 0) B dX0_count_68 rfl rfl ?_
      refine g0 (k := 2) B (vr (some 2)) rfl (fun z => by rw [((hS _).1 z).1 0 (by decide)]; rfl) rfl q358 rfl (fun z => by rw [((hS _).1 z).2 _ (List.mem_of_getElem? (i := 1) rfl)]; rfl) dX0_count_69 ?_
      refine g1N (k := 9) B (vi (si s 2 9)) rfl (fun z => by rw [((hS _).1 z).1 2 (by decide)]; rfl) rfl (lw_n q224 rfl) rfl (fun _ => rfl) dX0_count_72 ?_
      exact r_iret B dX0_count_75 h
    · have h := of c1_1 h
      by_cases c1_2 : p0 = (2 : Int32)
      · have h := ot c1_2 h
        refine r_tin (tgt := 76) B dX0_count_1 c1_2 (by decide) (by decide) (off := 75) (by decide) (by decide) ?_
        refine r_aload_n (j := 0) B dX0_count_76 rfl rfl ?_
        refine g0 (k := 2) B (vr (some 2)) rfl (fun z => by rw [((hS _).1 z).1 0 (by decide)]; rfl) rfl q358 rfl (fun z => by rw [((hS _).1 z).2 _ (List.mem_of_getElem? (i := 1) rfl)]; rfl) dX0_count_77 ?_
        refine g1N (k := 7) B (vr (some 10)) rfl (fun z => by rw [((hS _).1 z).1 2 (by decide)]; rfl) rfl (lw_n q220 rfl) rfl (fun z => by rw [((hS _).1 z).2 _ (List.mem_of_getElem? (i := 24) rfl)]; rfl) dX0_count_80 ?_
        obtain ⟨r1, s2, hc3, h⟩ := bnd_e h
        obtain ⟨hg4, h⟩ := gp_e h
        refine r_callVv (As := []) (rest := []) B rfl rfl (EX.noSk (fun _ => (hS _).2 hg4)) (c_J2_size B.ge.noSk (fun _ => trivial) hc3) (cw_J2_size rfl rfl) (fun z => RV.of 18 ((fun z => by rw [((hS _).1 z).1 10 (by decide)]; rfl) z) rfl rfl q606) q693 q605 rfl dX0_count_83 ?_
        exact r_iret B dX0_count_86 h
      · have h := of c1_2 h
        by_cases c1_3 : p0 = (3 : Int32)
        · have h := ot c1_3 h
          refine r_tin (tgt := 87) B dX0_count_1 c1_3 (by decide) (by decide) (off := 86) (by decide) (by decide) ?_
          refine r_aload_n (j := 0) B dX0_count_87 rfl rfl ?_
          refine g0 (k := 15) B (vi (si s 0 15)) rfl (fun z => by rw [((hS _).1 z).1 0 (by decide)]; rfl) rfl q371 rfl (fun _ => rfl) dX0_count_88 ?_
          exact r_iret B dX0_count_91 h
        · have h := of c1_3 h
          by_cases c1_4 : p0 = (4 : Int32)
          · have h := ot c1_4 h
            refine r_tin (tgt := 92) B dX0_count_1 c1_4 (by decide) (by decide) (off := 91) (by decide) (by decide) ?_
            refine r_aload_n (j := 0) B dX0_count_92 rfl rfl ?_
            refine g0 (k := 11) B (vi (si s 0 11)) rfl (fun z => by rw [((hS _).1 z).1 0 (by decide)]; rfl) rfl q367 rfl (fun _ => rfl) dX0_count_93 ?_
            exact r_iret B dX0_count_96 h
          · have h := of c1_4 h
            by_cases c1_5 : p0 = (5 : Int32)
            · have h := ot c1_5 h
              refine r_tin (tgt := 97) B dX0_count_1 c1_5 (by decide) (by decide) (off := 96) (by decide) (by decide) ?_
              exact w_X0_count_97 B hS s p0 h
            · have h := of c1_5 h
              by_cases c1_6 : p0 = (6 : Int32)
              · have h := ot c1_6 h
                refine r_tin (tgt := 97) B dX0_count_1 c1_6 (by decide) (by decide) (off := 96) (by decide) (by decide) ?_
                exact w_X0_count_97 B hS s p0 h
              · have h := of c1_6 h
                by_cases c1_7 : p0 = (7 : Int32)
                · have h := ot c1_7 h
                  refine r_tin (tgt := 97) B dX0_count_1 c1_7 (by decide) (by decide) (off := 96) (by decide) (by decide) ?_
                  exact w_X0_count_97 B hS s p0 h
                · have h := of c1_7 h
                  by_cases c1_8 : p0 = (8 : Int32)
                  · have h := ot c1_8 h
                    refine r_tin (tgt := 106) B dX0_count_1 c1_8 (by decide) (by decide) (off := 105) (by decide) (by decide) ?_
                    exact w_X0_count_106 B hS s p0 h
                  · have h := of c1_8 h
                    by_cases c1_9 : p0 = (9 : Int32)
                    · have h := ot c1_9 h
                      refine r_tin (tgt := 106) B dX0_count_1 c1_9 (by decide) (by decide) (off := 105) (by decide) (by decide) ?_
                      exact w_X0_count_106 B hS s p0 h
                    · have h := of c1_9 h
                      by_cases c1_10 : p0 = (10 : Int32)
                      · have h := ot c1_10 h
                        refine r_tin (tgt := 115) B dX0_count_1 c1_10 (by decide) (by decide) (off := 114) (by decide) (by decide) ?_
                        refine r_aload_n (j := 0) B dX0_count_115 rfl rfl ?_
                        refine g0 (k := 2) B (vr (some 2)) rfl (fun z => by rw [((hS _).1 z).1 0 (by decide)]; rfl) rfl q358 rfl (fun z => by rw [((hS _).1 z).2 _ (List.mem_of_getElem? (i := 1) rfl)]; rfl) dX0_count_116 ?_
                        refine g1N (k := 10) B (vi (si s 2 10)) rfl (fun z => by rw [((hS _).1 z).1 2 (by decide)]; rfl) rfl (lw_n q226 rfl) rfl (fun _ => rfl) dX0_count_119 ?_
                        exact r_iret B dX0_count_122 h
                      · have h := of c1_10 h
                        refine r_tout (tgt := 123) B dX0_count_1 (by have t0 := lv_neT (a := 0) c1_0 (by decide); have t1 := lv_neT (a := 1) c1_1 (by decide); have t2 := lv_neT (a := 2) c1_2 (by decide); have t3 := lv_neT (a := 3) c1_3 (by decide); have t4 := lv_neT (a := 4) c1_4 (by decide); have t5 := lv_neT (a := 5) c1_5 (by decide); have t6 := lv_neT (a := 6) c1_6 (by decide); have t7 := lv_neT (a := 7) c1_7 (by decide); have t8 := lv_neT (a := 8) c1_8 (by decide); have t9 := lv_neT (a := 9) c1_9 (by decide); have t10 := lv_neT (a := 10) c1_10 (by decide); omega) (by decide) ?_
                        refine r_iload_n (j := 1) B dX0_count_123 rfl rfl ?_
                        refine r_bipush (v := 11) B dX0_count_124 (by decide) ?_
                        refine r_bipush (v := 19) B dX0_count_126 (by decide) ?_
                        obtain ⟨r5, s6, hc7, h⟩ := bnd_e h
                        refine r_callSv (As := [vi p0, vi (11 : Int32), vi (19 : Int32)]) (rest := []) B rfl EX.same (c_X0_in B.ge hS hc7) (cw_X0_in rfl rfl) q445 q446 rfl dX0_count_128 ?_
                        refine r_if_eq (tgt := 145) B dX0_count_131 (by decide) (fun cn8 => ?_) (fun cn8 => ?_)
                        · have h := ot cn8 h
                          refine r_sipush (v := -1000) B dX0_count_145 (by decide) ?_
                          exact r_iret B dX0_count_148 h
                        · have h := of cn8 h
                          refine r_aload_n (j := 0) B dX0_count_134 rfl rfl ?_
                          refine r_iload_n (j := 1) B dX0_count_135 rfl rfl ?_
                          refine r_bipush (v := 11) B dX0_count_136 (by decide) ?_
                          refine r_isub B dX0_count_138 ?_
                          obtain ⟨r9, s10, hc11, h⟩ := bnd_e h
                          refine r_callVv (As := [vi (p0 - (11 : Int32))]) (rest := []) B rfl rfl EX.same (c_X0_term B.ge hS hc11) (cw_X0_term rfl rfl) (fun z => RV.of 0 (by rw [((hS _).1 z).1 0 (by decide)]; rfl) rfl rfl qs10) q576 q578 rfl dX0_count_139 ?_
                          refine r_goto (tgt := 148) B dX0_count_142 (by decide) ?_
                          exact r_iret B dX0_count_148 h
set_option maxHeartbeats 4000000 in
theorem cw_X0_count {X : CX} {fr lo : Nat} (h1 : Nat.ble (1 + 1) fr = true) (h2 : Nat.ble (21 + 22) lo = true) : CW X fr lo yX0_count cX0_count 2 (some .int) 1 22 1 := ⟨q1483, q126, ⟨by decide +kernel, by decide +kernel, by decide +kernel⟩, Nat.le_of_ble_eq_true h1, Nat.le_of_ble_eq_true h2⟩

set_option maxHeartbeats 4000000 in
noncomputable def F_X0_status (s : St)  : Option (Int32 × St) := some ((si s 0 0), s)
set_option maxHeartbeats 4000000 in
theorem c_X0_status {l : Launch} {E : EV} (hE : GE E) (hS : ∀ σ, eSk E σ ↔ SkC σ) {s s' : St} {r : Int32}  (h : F_X0_status  s  = some (r, s')) : CT l E yX0_status cX0_status 1 (some .int) 0 0 [vr (some 0)] s (some (vi r)) s' := by
  refine CT.start hE (by decide) rfl [(0, vr (some 0))] rfl (fun X hX B => ?_)
  skip
  have B : FX X E cX0_status 1 (some .int) "RoseThrow" "status" (sn s) (ss s) 0 0 := B
  unfold F_X0_status at h
  refine r_aload_n (j := 0) B dX0_status_0 rfl rfl ?_
  refine g0 (k := 0) B (vi (si s 0 0)) rfl (fun z => by rw [((hS _).1 z).1 0 (by decide)]; rfl) rfl q356 rfl (fun _ => rfl) dX0_status_1 ?_
  exact r_iret B dX0_status_4 h
set_option maxHeartbeats 4000000 in
theorem cw_X0_status {X : CX} {fr lo : Nat} (h1 : Nat.ble (0 + 1) fr = true) (h2 : Nat.ble (20 + 0) lo = true) : CW X fr lo yX0_status cX0_status 1 (some .int) 0 0 0 := ⟨q1487, q126, ⟨by decide +kernel, by decide +kernel, by decide +kernel⟩, Nat.le_of_ble_eq_true h1, Nat.le_of_ble_eq_true h2⟩

set_option maxHeartbeats 4000000 in
noncomputable def F_X5_init (s : St) (this : Nat)  : Option (Unit × St) := gd (okN s 7) <| nam (newO s (100, 7) 7) fun s2 => gd (isK s2 this 5) <| nam (setR s2 this 2 (some (sn s))) fun s5 => gd (okN s5 5460) <| nam (newO s5 (100, 5460) 5460) fun s8 => gd (isK s8 this 5) <| nam (setR s8 this 3 (some (sn s5))) fun s11 => gd (okN s11 10920) <| nam (newO s11 (100, 10920) 10920) fun s14 => gd (isK s14 this 5) <| nam (setR s14 this 4 (some (sn s11))) fun s17 => gd (okN s17 2) <| nam (newO s17 (103, 2) 2) fun s20 => gd (isK s20 this 5) <| nam (setR s20 this 5 (some (sn s17))) fun s23 => gd (okN s23 108) <| nam (newO s23 (100, 108) 108) fun s26 => gd (isK s26 this 5) <| nam (setR s26 this 6 (some (sn s23))) fun s29 => gd (okN s29 16) <| nam (newO s29 (100, 16) 16) fun s32 => gd (isK s32 this 5) <| nam (setR s32 this 7 (some (sn s29))) fun s35 => gd (okN s35 120) <| nam (newO s35 (100, 120) 120) fun s38 => gd (isK s38 this 5) <| nam (setR s38 this 9 (some (sn s35))) fun s41 => gd (okN s41 6) <| nam (newO s41 (100, 6) 6) fun s44 => gd (isK s44 this 5) <| nam (setR s44 this 10 (some (sn s41))) fun s47 => gd (okN s47 16) <| nam (newO s47 (100, 16) 16) fun s50 => gd (isK s50 this 5) <| nam (setR s50 this 11 (some (sn s47))) fun s53 => gd (okN s53 400) <| nam (newO s53 (100, 400) 400) fun s56 => gd (isK s56 this 5) <| nam (setR s56 this 13 (some (sn s53))) fun s59 => gd (isK s59 this 5) <| nam (setI s59 this 19 (-1 : Int32)) fun s62 => gd (okN s62 96) <| nam (newO s62 (100, 96) 96) fun s65 => gd (isK s65 this 5) <| nam (setR s65 this 23 (some (sn s62))) fun s68 => gd (okN s68 400) <| nam (newO s68 (100, 400) 400) fun s71 => gd (isK s71 this 5) <| nam (setR s71 this 25 (some (sn s68))) fun s74 => gd (okN s74 400) <| nam (newO s74 (100, 400) 400) fun s77 => gd (isK s77 this 5) <| nam (setR s77 this 26 (some (sn s74))) fun s80 => gd (okN s80 400) <| nam (newO s80 (100, 400) 400) fun s83 => gd (isK s83 this 5) <| nam (setR s83 this 28 (some (sn s80))) fun s86 => gd (okN s86 400) <| nam (newO s86 (100, 400) 400) fun s89 => gd (isK s89 this 5) <| nam (setR s89 this 29 (some (sn s86))) fun s92 => gd (okN s92 14) <| nam (newO s92 (101, 14) 14) fun s95 => gd (isK s95 (sn s92) 101) <| gd (inb (0 : Int32) (sk s95 (sn s92)).2) <| nam (setL s95 (sn s92) (0 : Int32).toNatClampNeg (6801509 : Int64)) fun s99 => gd (isK s99 (sn s92) 101) <| gd (inb (1 : Int32) (sk s99 (sn s92)).2) <| nam (setL s99 (sn s92) (1 : Int32).toNatClampNeg (631941 : Int64)) fun s103 => gd (isK s103 (sn s92) 101) <| gd (inb (2 : Int32) (sk s103 (sn s92)).2) <| nam (setL s103 (sn s92) (2 : Int32).toNatClampNeg (271592 : Int64)) fun s107 => gd (isK s107 (sn s92) 101) <| gd (inb (3 : Int32) (sk s107 (sn s92)).2) <| nam (setL s107 (sn s92) (3 : Int32).toNatClampNeg (769604 : Int64)) fun s111 => gd (isK s111 (sn s92) 101) <| gd (inb (4 : Int32) (sk s111 (sn s92)).2) <| nam (setL s111 (sn s92) (4 : Int32).toNatClampNeg (152 : Int64)) fun s115 => gd (isK s115 (sn s92) 101) <| gd (inb (5 : Int32) (sk s115 (sn s92)).2) <| nam (setL s115 (sn s92) (5 : Int32).toNatClampNeg (153 : Int64)) fun s119 => gd (isK s119 (sn s92) 101) <| gd (inb (6 : Int32) (sk s119 (sn s92)).2) <| nam (setL s119 (sn s92) (6 : Int32).toNatClampNeg (3275858098 : Int64)) fun s123 => gd (isK s123 (sn s92) 101) <| gd (inb (7 : Int32) (sk s123 (sn s92)).2) <| nam (setL s123 (sn s92) (7 : Int32).toNatClampNeg (656780 : Int64)) fun s127 => gd (isK s127 (sn s92) 101) <| gd (inb (8 : Int32) (sk s127 (sn s92)).2) <| nam (setL s127 (sn s92) (8 : Int32).toNatClampNeg (755156 : Int64)) fun s131 => gd (isK s131 (sn s92) 101) <| gd (inb (9 : Int32) (sk s131 (sn s92)).2) <| nam (setL s131 (sn s92) (9 : Int32).toNatClampNeg (6194 : Int64)) fun s135 => gd (isK s135 (sn s92) 101) <| gd (inb (10 : Int32) (sk s135 (sn s92)).2) <| nam (setL s135 (sn s92) (10 : Int32).toNatClampNeg (102407444 : Int64)) fun s139 => gd (isK s139 (sn s92) 101) <| gd (inb (11 : Int32) (sk s139 (sn s92)).2) <| nam (setL s139 (sn s92) (11 : Int32).toNatClampNeg (24 : Int64)) fun s143 => gd (isK s143 (sn s92) 101) <| gd (inb (12 : Int32) (sk s143 (sn s92)).2) <| nam (setL s143 (sn s92) (12 : Int32).toNatClampNeg (25 : Int64)) fun s147 => gd (isK s147 (sn s92) 101) <| gd (inb (13 : Int32) (sk s147 (sn s92)).2) <| nam (setL s147 (sn s92) (13 : Int32).toNatClampNeg (441828 : Int64)) fun s151 => gd (isK s151 this 5) <| nam (setR s151 this 32 (some (sn s92))) fun s154 => gd (okN s154 5) <| nam (newO s154 (101, 5) 5) fun s157 => gd (isK s157 (sn s154) 101) <| gd (inb (0 : Int32) (sk s157 (sn s154)).2) <| nam (setL s157 (sn s154) (0 : Int32).toNatClampNeg (104827459155 : Int64)) fun s161 => gd (isK s161 (sn s154) 101) <| gd (inb (1 : Int32) (sk s161 (sn s154)).2) <| nam (setL s161 (sn s154) (1 : Int32).toNatClampNeg (146885 : Int64)) fun s165 => gd (isK s165 (sn s154) 101) <| gd (inb (2 : Int32) (sk s165 (sn s154)).2) <| nam (setL s165 (sn s154) (2 : Int32).toNatClampNeg (626630820 : Int64)) fun s169 => gd (isK s169 (sn s154) 101) <| gd (inb (3 : Int32) (sk s169 (sn s154)).2) <| nam (setL s169 (sn s154) (3 : Int32).toNatClampNeg (103820 : Int64)) fun s173 => gd (isK s173 (sn s154) 101) <| gd (inb (4 : Int32) (sk s173 (sn s154)).2) <| nam (setL s173 (sn s154) (4 : Int32).toNatClampNeg (72754342 : Int64)) fun s177 => gd (isK s177 this 5) <| nam (setR s177 this 33 (some (sn s154))) fun s180 => gd (okN s180 4) <| nam (newO s180 (101, 4) 4) fun s183 => gd (isK s183 (sn s180) 101) <| gd (inb (0 : Int32) (sk s183 (sn s180)).2) <| nam (setL s183 (sn s180) (0 : Int32).toNatClampNeg (20325907 : Int64)) fun s187 => gd (isK s187 (sn s180) 101) <| gd (inb (1 : Int32) (sk s187 (sn s180)).2) <| nam (setL s187 (sn s180) (1 : Int32).toNatClampNeg (7939603 : Int64)) fun s191 => gd (isK s191 (sn s180) 101) <| gd (inb (2 : Int32) (sk s191 (sn s180)).2) <| nam (setL s191 (sn s180) (2 : Int32).toNatClampNeg (758931 : Int64)) fun s195 => gd (isK s195 (sn s180) 101) <| gd (inb (3 : Int32) (sk s195 (sn s180)).2) <| nam (setL s195 (sn s180) (3 : Int32).toNatClampNeg (67155 : Int64)) fun s199 => gd (isK s199 this 5) <| nam (setR s199 this 34 (some (sn s180))) fun s202 => gd (okN s202 15) <| nam (newO s202 (101, 15) 15) fun s205 => gd (isK s205 this 5) <| nam (setR s205 this 36 (some (sn s202))) fun s208 => gd (okN s208 13) <| nam (newO s208 (101, 13) 13) fun s211 => gd (isK s211 this 5) <| nam (setR s211 this 37 (some (sn s208))) fun s214 => gd (okN s214 400) <| nam (newO s214 (101, 400) 400) fun s217 => gd (isK s217 this 5) <| nam (setR s217 this 38 (some (sn s214))) fun s220 => gd (okN s220 37) <| nam (newO s220 (100, 37) 37) fun s223 => gd (isK s223 this 5) <| nam (setR s223 this 42 (some (sn s220))) fun s226 => gd (okN s226 9) <| nam (newO s226 (100, 9) 9) fun s229 => gd (isK s229 this 5) <| nam (setR s229 this 43 (some (sn s226))) fun s232 => gd (okN s232 9) <| nam (newO s232 (100, 9) 9) fun s235 => gd (isK s235 this 5) <| nam (setR s235 this 44 (some (sn s232))) fun s238 => gd (okN s238 6) <| nam (newO s238 (103, 6) 6) fun s241 => gd (isK s241 this 5) <| nam (setR s241 this 48 (some (sn s238))) fun s244 => gd (okN s244 7) <| nam (newO s244 (100, 7) 7) fun s247 => gd (isK s247 this 5) <| nam (setR s247 this 51 (some (sn s244))) fun s250 => gd (okN s250 96) <| nam (newO s250 (100, 96) 96) fun s253 => gd (isK s253 this 5) <| nam (setR s253 this 58 (some (sn s250))) fun s256 => gd (isK s256 this 5) <| nam (setI s256 this 61 (-1 : Int32)) fun s259 => gd (okN s259 12) <| nam (newO s259 (100, 12) 12) fun s262 => gd (isK s262 this 5) <| nam (setR s262 this 64 (some (sn s259))) fun s265 => gd (isK s265 this 5) <| drf (sr s265 this 3) fun a268 => gd (isK s265 a268 100) <| gd (inb (3 : Int32) (sk s265 a268).2) <| nam (setI s265 a268 (3 : Int32).toNatClampNeg (-1 : Int32)) fun s272 => gd (isK s272 this 5) <| drf (sr s272 this 3) fun a275 => gd (isK s272 a275 100) <| gd (inb (4 : Int32) (sk s272 a275).2) <| nam (setI s272 a275 (4 : Int32).toNatClampNeg (3 : Int32)) fun s279 => gd (isK s279 this 5) <| drf (sr s279 this 3) fun a282 => gd (isK s279 a282 100) <| gd (inb (6 : Int32) (sk s279 a282).2) <| nam (setI s279 a282 (6 : Int32).toNatClampNeg (3 : Int32)) fun s286 => gd (isK s286 this 5) <| drf (sr s286 this 3) fun a289 => gd (isK s286 a289 100) <| gd (inb (7 : Int32) (sk s286 a289).2) <| nam (setI s286 a289 (7 : Int32).toNatClampNeg (3 : Int32)) fun s293 => gd (isK s293 this 5) <| drf (sr s293 this 3) fun a296 => gd (isK s293 a296 100) <| gd (inb (8 : Int32) (sk s293 a296).2) <| nam (setI s293 a296 (8 : Int32).toNatClampNeg (2 : Int32)) fun s300 => gd (isK s300 this 5) <| drf (sr s300 this 3) fun a303 => gd (isK s300 a303 100) <| gd (inb (10 : Int32) (sk s300 a303).2) <| nam (setI s300 a303 (10 : Int32).toNatClampNeg (-1 : Int32)) fun s307 => gd (isK s307 this 5) <| drf (sr s307 this 3) fun a310 => gd (isK s307 a310 100) <| gd (inb (11 : Int32) (sk s307 a310).2) <| nam (setI s307 a310 (11 : Int32).toNatClampNeg (9 : Int32)) fun s314 => some ((), s314)
set_option maxHeartbeats 4000000 in
theorem c_X5_init {l : Launch} {E : EV} (hE : GE E) (h0 : ∀ σ, eSk E σ) {s s' : St} {r : Unit} {this : Nat}  (h : F_X5_init  s this = some (r, s')) : CT l E yX5_init cX5_init 1 none 1 20 [vr (some this)] s none s' := by
  refine CT.start hE (by decide) rfl [(0, vr (some this))] rfl (fun X hX B => ?_)
  skip
  have B : FX X E cX5_init 1 none "RoseThrowModel" "<init>" (sn s) (ss s) 1 20 := B
  unfold F_X5_init at h
  refine r_aload_n (j := 0) B dX5_init_0 rfl rfl ?_
  refine r_objInit B rfl q1493 q168 q169 (by decide) (by decide) rfl dX5_init_1 ?_
  refine r_aload_n (j := 0) B dX5_init_4 rfl rfl ?_
  refine r_bipush (v := 7) B dX5_init_5 (by decide) ?_
  obtain ⟨hg1, h⟩ := gd_e h
  obtain ⟨s2, e3, h⟩ := nam_e h
  refine r_newa 0 (by decide) B rfl (by decide) (N := 7) (by decide) rfl e3 hg1 q204 (fun _ => h0 _) dX5_init_7 ?_
  obtain ⟨hg4, h⟩ := gd_e h
  obtain ⟨s5, e6, h⟩ := nam_e h
  refine pR5F (k := 2) B e6 rfl (fun _ => isK_e hg4) rfl q1519 rfl rfl rfl rfl (Or.inr ⟨_, rfl⟩) (fun _ => h0 _) dX5_init_9 ?_
  refine r_aload_n (j := 0) B dX5_init_12 rfl rfl ?_
  refine r_sipush (v := 5460) B dX5_init_13 (by decide) ?_
  obtain ⟨hg7, h⟩ := gd_e h
  obtain ⟨s8, e9, h⟩ := nam_e h
  refine r_newa 0 (by decide) B rfl (by decide) (N := 5460) (by decide) rfl e9 hg7 q204 (fun _ => h0 _) dX5_init_16 ?_
  obtain ⟨hg10, h⟩ := gd_e h
  obtain ⟨s11, e12, h⟩ := nam_e h
  refine pR5F (k := 3) B e12 rfl (fun _ => isK_e hg10) rfl q1520 rfl rfl rfl rfl (Or.inr ⟨_, rfl⟩) (fun _ => h0 _) dX5_init_18 ?_
  refine r_aload_n (j := 0) B dX5_init_21 rfl rfl ?_
  refine r_sipush (v := 10920) B dX5_init_22 (by decide) ?_
  obtain ⟨hg13, h⟩ := gd_e h
  obtain ⟨s14, e15, h⟩ := nam_e h
  refine r_newa 0 (by decide) B rfl (by decide) (N := 10920) (by decide) rfl e15 hg13 q204 (fun _ => h0 _) dX5_init_25 ?_
  obtain ⟨hg16, h⟩ := gd_e h
  obtain ⟨s17, e18, h⟩ := nam_e h
  refine pR5F (k := 4) B e18 rfl (fun _ => isK_e hg16) rfl q1521 rfl rfl rfl rfl (Or.inr ⟨_, rfl⟩) (fun _ => h0 _) dX5_init_27 ?_
  refine r_aload_n (j := 0) B dX5_init_30 rfl rfl ?_
  refine r_iconst (v := 2) B dX5_init_31 (by decide) ?_
  obtain ⟨hg19, h⟩ := gd_e h
  obtain ⟨s20, e21, h⟩ := nam_e h
  refine r_newa 3 (by decide) B rfl (by decide) (N := 2) (by decide) rfl e21 hg19 q1719 (fun _ => h0 _) dX5_init_32 ?_
  obtain ⟨hg22, h⟩ := gd_e h
  obtain ⟨s23, e24, h⟩ := nam_e h
  refine pR5F (k := 5) B e24 rfl (fun _ => isK_e hg22) rfl q1522 rfl rfl rfl rfl (Or.inr ⟨_, rfl⟩) (fun _ => h0 _) dX5_init_34 ?_
  refine r_aload_n (j := 0) B dX5_init_37 rfl rfl ?_
  refine r_bipush (v := 108) B dX5_init_38 (by decide) ?_
  obtain ⟨hg25, h⟩ := gd_e h
  obtain ⟨s26, e27, h⟩ := nam_e h
  refine r_newa 0 (by decide) B rfl (by decide) (N := 108) (by decide) rfl e27 hg25 q204 (fun _ => h0 _) dX5_init_40 ?_
  obtain ⟨hg28, h⟩ := gd_e h
  obtain ⟨s29, e30, h⟩ := nam_e h
  refine pR5F (k := 6) B e30 rfl (fun _ => isK_e hg28) rfl q1523 rfl rfl rfl rfl (Or.inr ⟨_, rfl⟩) (fun _ => h0 _) dX5_init_42 ?_
  refine r_aload_n (j := 0) B dX5_init_45 rfl rfl ?_
  refine r_bipush (v := 16) B dX5_init_46 (by decide) ?_
  obtain ⟨hg31, h⟩ := gd_e h
  obtain ⟨s32, e33, h⟩ := nam_e h
  refine r_newa 0 (by decide) B rfl (by decide) (N := 16) (by decide) rfl e33 hg31 q204 (fun _ => h0 _) dX5_init_48 ?_
  obtain ⟨hg34, h⟩ := gd_e h
  obtain ⟨s35, e36, h⟩ := nam_e h
  refine pR5F (k := 7) B e36 rfl (fun _ => isK_e hg34) rfl q1524 rfl rfl rfl rfl (Or.inr ⟨_, rfl⟩) (fun _ => h0 _) dX5_init_50 ?_
  refine r_aload_n (j := 0) B dX5_init_53 rfl rfl ?_
  refine r_bipush (v := 120) B dX5_init_54 (by decide) ?_
  obtain ⟨hg37, h⟩ := gd_e h
  obtain ⟨s38, e39, h⟩ := nam_e h
  refine r_newa 0 (by decide) B rfl (by decide) (N := 120) (by decide) rfl e39 hg37 q204 (fun _ => h0 _) dX5_init_56 ?_
  obtain ⟨hg40, h⟩ := gd_e h
  obtain ⟨s41, e42, h⟩ := nam_e h
  refine pR5F (k := 9) B e42 rfl (fun _ => isK_e hg40) rfl q1526 rfl rfl rfl rfl (Or.inr ⟨_, rfl⟩) (fun _ => h0 _) dX5_init_58 ?_
  refine r_aload_n (j := 0) B dX5_init_61 rfl rfl ?_
  refine r_bipush (v := 6) B dX5_init_62 (by decide) ?_
  obtain ⟨hg43, h⟩ := gd_e h
  obtain ⟨s44, e45, h⟩ := nam_e h
  refine r_newa 0 (by decide) B rfl (by decide) (N := 6) (by decide) rfl e45 hg43 q204 (fun _ => h0 _) dX5_init_64 ?_
  obtain ⟨hg46, h⟩ := gd_e h
  obtain ⟨s47, e48, h⟩ := nam_e h
  refine pR5F (k := 10) B e48 rfl (fun _ => isK_e hg46) rfl q1527 rfl rfl rfl rfl (Or.inr ⟨_, rfl⟩) (fun _ => h0 _) dX5_init_66 ?_
  refine r_aload_n (j := 0) B dX5_init_69 rfl rfl ?_
  refine r_bipush (v := 16) B dX5_init_70 (by decide) ?_
  obtain ⟨hg49, h⟩ := gd_e h
  obtain ⟨s50, e51, h⟩ := nam_e h
  refine r_newa 0 (by decide) B rfl (by decide) (N := 16) (by decide) rfl e51 hg49 q204 (fun _ => h0 _) dX5_init_72 ?_
  obtain ⟨hg52, h⟩ := gd_e h
  obtain ⟨s53, e54, h⟩ := nam_e h
  refine pR5F (k := 11) B e54 rfl (fun _ => isK_e hg52) rfl q1528 rfl rfl rfl rfl (Or.inr ⟨_, rfl⟩) (fun _ => h0 _) dX5_init_74 ?_
  refine r_aload_n (j := 0) B dX5_init_77 rfl rfl ?_
  refine r_sipush (v := 400) B dX5_init_78 (by decide) ?_
  obtain ⟨hg55, h⟩ := gd_e h
  obtain ⟨s56, e57, h⟩ := nam_e h
  refine r_newa 0 (by decide) B rfl (by decide) (N := 400) (by decide) rfl e57 hg55 q204 (fun _ => h0 _) dX5_init_81 ?_
  obtain ⟨hg58, h⟩ := gd_e h
  obtain ⟨s59, e60, h⟩ := nam_e h
  refine pR5F (k := 13) B e60 rfl (fun _ => isK_e hg58) rfl q1530 rfl rfl rfl rfl (Or.inr ⟨_, rfl⟩) (fun _ => h0 _) dX5_init_83 ?_
  refine r_aload_n (j := 0) B dX5_init_86 rfl rfl ?_
  refine r_iconst (v := -1) B dX5_init_87 (by decide) ?_
  obtain ⟨hg61, h⟩ := gd_e h
  obtain ⟨s62, e63, h⟩ := nam_e h
  refine pI5 (k := 19) B e63 rfl (fun _ => isK_e hg61) rfl q1536 rfl rfl (fun _ _ _ => rfl) rfl dX5_init_88 ?_
  refine r_aload_n (j := 0) B dX5_init_91 rfl rfl ?_
  refine r_bipush (v := 96) B dX5_init_92 (by decide) ?_
  obtain ⟨hg64, h⟩ := gd_e h
  obtain ⟨s65, e66, h⟩ := nam_e h
  refine r_newa 0 (by decide) B rfl (by decide) (N := 96) (by decide) rfl e66 hg64 q204 (fun _ => h0 _) dX5_init_94 ?_
  obtain ⟨hg67, h⟩ := gd_e h
  obtain ⟨s68, e69, h⟩ := nam_e h
  refine pR5F (k := 23) B e69 rfl (fun _ => isK_e hg67) rfl q1540 rfl rfl rfl rfl (Or.inr ⟨_, rfl⟩) (fun _ => h0 _) dX5_init_96 ?_
  refine r_aload_n (j := 0) B dX5_init_99 rfl rfl ?_
  refine r_sipush (v := 400) B dX5_init_100 (by decide) ?_
  obtain ⟨hg70, h⟩ := gd_e h
  obtain ⟨s71, e72, h⟩ := nam_e h
  refine r_newa 0 (by decide) B rfl (by decide) (N := 400) (by decide) rfl e72 hg70 q204 (fun _ => h0 _) dX5_init_103 ?_
  obtain ⟨hg73, h⟩ := gd_e h
  obtain ⟨s74, e75, h⟩ := nam_e h
  refine pR5F (k := 25) B e75 rfl (fun _ => isK_e hg73) rfl q1542 rfl rfl rfl rfl (Or.inr ⟨_, rfl⟩) (fun _ => h0 _) dX5_init_105 ?_
  refine r_aload_n (j := 0) B dX5_init_108 rfl rfl ?_
  refine r_sipush (v := 400) B dX5_init_109 (by decide) ?_
  obtain ⟨hg76, h⟩ := gd_e h
  obtain ⟨s77, e78, h⟩ := nam_e h
  refine r_newa 0 (by decide) B rfl (by decide) (N := 400) (by decide) rfl e78 hg76 q204 (fun _ => h0 _) dX5_init_112 ?_
  obtain ⟨hg79, h⟩ := gd_e h
  obtain ⟨s80, e81, h⟩ := nam_e h
  refine pR5F (k := 26) B e81 rfl (fun _ => isK_e hg79) rfl q1543 rfl rfl rfl rfl (Or.inr ⟨_, rfl⟩) (fun _ => h0 _) dX5_init_114 ?_
  refine r_aload_n (j := 0) B dX5_init_117 rfl rfl ?_
  refine r_sipush (v := 400) B dX5_init_118 (by decide) ?_
  obtain ⟨hg82, h⟩ := gd_e h
  obtain ⟨s83, e84, h⟩ := nam_e h
  refine r_newa 0 (by decide) B rfl (by decide) (N := 400) (by decide) rfl e84 hg82 q204 (fun _ => h0 _) dX5_init_121 ?_
  obtain ⟨hg85, h⟩ := gd_e h
  obtain ⟨s86, e87, h⟩ := nam_e h
  refine pR5F (k := 28) B e87 rfl (fun _ => isK_e hg85) rfl q1545 rfl rfl rfl rfl (Or.inr ⟨_, rfl⟩) (fun _ => h0 _) dX5_init_123 ?_
  refine r_aload_n (j := 0) B dX5_init_126 rfl rfl ?_
  refine r_sipush (v := 400) B dX5_init_127 (by decide) ?_
  obtain ⟨hg88, h⟩ := gd_e h
  obtain ⟨s89, e90, h⟩ := nam_e h
  refine r_newa 0 (by decide) B rfl (by decide) (N := 400) (by decide) rfl e90 hg88 q204 (fun _ => h0 _) dX5_init_130 ?_
  obtain ⟨hg91, h⟩ := gd_e h
  obtain ⟨s92, e93, h⟩ := nam_e h
  refine pR5F (k := 29) B e93 rfl (fun _ => isK_e hg91) rfl q1546 rfl rfl rfl rfl (Or.inr ⟨_, rfl⟩) (fun _ => h0 _) dX5_init_132 ?_
  refine r_aload_n (j := 0) B dX5_init_135 rfl rfl ?_
  refine r_bipush (v := 14) B dX5_init_136 (by decide) ?_
  obtain ⟨hg94, h⟩ := gd_e h
  obtain ⟨s95, e96, h⟩ := nam_e h
  refine r_newa 1 (by decide) B rfl (by decide) (N := 14) (by decide) rfl e96 hg94 q328 (fun _ => h0 _) dX5_init_138 ?_
  refine r_dup B dX5_init_140 rfl ?_
  refine r_iconst (v := 0) B dX5_init_141 (by decide) ?_
  refine r_ldc2 B dX5_init_142 q1494 ?_
  obtain ⟨hg97, h⟩ := gd_e h
  obtain ⟨hg98, h⟩ := gd_e h
  obtain ⟨s99, e100, h⟩ := nam_e h
  refine r_last B e100 rfl (fun _ => isK_a hg97) hg98 dX5_init_145 ?_
  refine r_dup B dX5_init_146 rfl ?_
  refine r_iconst (v := 1) B dX5_init_147 (by decide) ?_
  refine r_ldc2 B dX5_init_148 q1495 ?_
  obtain ⟨hg101, h⟩ := gd_e h
  obtain ⟨hg102, h⟩ := gd_e h
  obtain ⟨s103, e104, h⟩ := nam_e h
  refine r_last B e104 rfl (fun _ => isK_a hg101) hg102 dX5_init_151 ?_
  refine r_dup B dX5_init_152 rfl ?_
  refine r_iconst (v := 2) B dX5_init_153 (by decide) ?_
  refine r_ldc2 B dX5_init_154 q1496 ?_
  obtain ⟨hg105, h⟩ := gd_e h
  obtain ⟨hg106, h⟩ := gd_e h
  obtain ⟨s107, e108, h⟩ := nam_e h
  refine r_last B e108 rfl (fun _ => isK_a hg105) hg106 dX5_init_157 ?_
  refine r_dup B dX5_init_158 rfl ?_
  refine r_iconst (v := 3) B dX5_init_159 (by decide) ?_
  refine r_ldc2 B dX5_init_160 q1497 ?_
  obtain ⟨hg109, h⟩ := gd_e h
  obtain ⟨hg110, h⟩ := gd_e h
  obtain ⟨s111, e112, h⟩ := nam_e h
  refine r_last B e112 rfl (fun _ => isK_a hg109) hg110 dX5_init_163 ?_
  refine r_dup B dX5_init_164 rfl ?_
  refine r_iconst (v := 4) B dX5_init_165 (by decide) ?_
  refine r_ldc2 B dX5_init_166 q1498 ?_
  obtain ⟨hg113, h⟩ := gd_e h
  obtain ⟨hg114, h⟩ := gd_e h
  obtain ⟨s115, e116, h⟩ := nam_e h
  refine r_last B e116 rfl (fun _ => isK_a hg113) hg114 dX5_init_169 ?_
  refine r_dup B dX5_init_170 rfl ?_
  refine r_iconst (v := 5) B dX5_init_171 (by decide) ?_
  refine r_ldc2 B dX5_init_172 q1499 ?_
  obtain ⟨hg117, h⟩ := gd_e h
  obtain ⟨hg118, h⟩ := gd_e h
  obtain ⟨s119, e120, h⟩ := nam_e h
  refine r_last B e120 rfl (fun _ => isK_a hg117) hg118 dX5_init_175 ?_
  refine r_dup B dX5_init_176 rfl ?_
  refine r_bipush (v := 6) B dX5_init_177 (by decide) ?_
  refine r_ldc2 B dX5_init_179 q1500 ?_
  obtain ⟨hg121, h⟩ := gd_e h
  obtain ⟨hg122, h⟩ := gd_e h
  obtain ⟨s123, e124, h⟩ := nam_e h
  refine r_last B e124 rfl (fun _ => isK_a hg121) hg122 dX5_init_182 ?_
  refine r_dup B dX5_init_183 rfl ?_
  refine r_bipush (v := 7) B dX5_init_184 (by decide) ?_
  refine r_ldc2 B dX5_init_186 q1501 ?_
  obtain ⟨hg125, h⟩ := gd_e h
  obtain ⟨hg126, h⟩ := gd_e h
  obtain ⟨s127, e128, h⟩ := nam_e h
  refine r_last B e128 rfl (fun _ => isK_a hg125) hg126 dX5_init_189 ?_
  refine r_dup B dX5_init_190 rfl ?_
  refine r_bipush (v := 8) B dX5_init_191 (by decide) ?_
  refine r_ldc2 B dX5_init_193 q1502 ?_
  obtain ⟨hg129, h⟩ := gd_e h
  obtain ⟨hg130, h⟩ := gd_e h
  obtain ⟨s131, e132, h⟩ := nam_e h
  refine r_last B e132 rfl (fun _ => isK_a hg129) hg130 dX5_init_196 ?_
  refine r_dup B dX5_init_197 rfl ?_
  refine r_bipush (v := 9) B dX5_init_198 (by decide) ?_
  refine r_ldc2 B dX5_init_200 q1503 ?_
  obtain ⟨hg133, h⟩ := gd_e h
  obtain ⟨hg134, h⟩ := gd_e h
  obtain ⟨s135, e136, h⟩ := nam_e h
  refine r_last B e136 rfl (fun _ => isK_a hg133) hg134 dX5_init_203 ?_
  refine r_dup B dX5_init_204 rfl ?_
  refine r_bipush (v := 10) B dX5_init_205 (by decide) ?_
  refine r_ldc2 B dX5_init_207 q1504 ?_
  obtain ⟨hg137, h⟩ := gd_e h
  obtain ⟨hg138, h⟩ := gd_e h
  obtain ⟨s139, e140, h⟩ := nam_e h
  refine r_last B e140 rfl (fun _ => isK_a hg137) hg138 dX5_init_210 ?_
  refine r_dup B dX5_init_211 rfl ?_
  refine r_bipush (v := 11) B dX5_init_212 (by decide) ?_
  refine r_ldc2 B dX5_init_214 q1505 ?_
  obtain ⟨hg141, h⟩ := gd_e h
  obtain ⟨hg142, h⟩ := gd_e h
  obtain ⟨s143, e144, h⟩ := nam_e h
  refine r_last B e144 rfl (fun _ => isK_a hg141) hg142 dX5_init_217 ?_
  refine r_dup B dX5_init_218 rfl ?_
  refine r_bipush (v := 12) B dX5_init_219 (by decide) ?_
  refine r_ldc2 B dX5_init_221 q1506 ?_
  obtain ⟨hg145, h⟩ := gd_e h
  obtain ⟨hg146, h⟩ := gd_e h
  obtain ⟨s147, e148, h⟩ := nam_e h
  refine r_last B e148 rfl (fun _ => isK_a hg145) hg146 dX5_init_224 ?_
  refine r_dup B dX5_init_225 rfl ?_
  refine r_bipush (v := 13) B dX5_init_226 (by decide) ?_
  refine r_ldc2 B dX5_init_228 q1507 ?_
  obtain ⟨hg149, h⟩ := gd_e h
  obtain ⟨hg150, h⟩ := gd_e h
  obtain ⟨s151, e152, h⟩ := nam_e h
  refine r_last B e152 rfl (fun _ => isK_a hg149) hg150 dX5_init_231 ?_
  obtain ⟨hg153, h⟩ := gd_e h
  obtain ⟨s154, e155, h⟩ := nam_e h
  refine pR5F (k := 32) B e155 rfl (fun _ => isK_e hg153) rfl q1549 rfl rfl rfl rfl (Or.inr ⟨_, rfl⟩) (fun _ => h0 _) dX5_init_232 ?_
  refine r_aload_n (j := 0) B dX5_init_235 rfl rfl ?_
  refine r_iconst (v := 5) B dX5_init_236 (by decide) ?_
  obtain ⟨hg156, h⟩ := gd_e h
  obtain ⟨s157, e158, h⟩ := nam_e h
  refine r_newa 1 (by decide) B rfl (by decide) (N := 5) (by decide) rfl e158 hg156 q328 (fun _ => h0 _) dX5_init_237 ?_
  refine r_dup B dX5_init_239 rfl ?_
  refine r_iconst (v := 0) B dX5_init_240 (by decide) ?_
  refine r_ldc2 B dX5_init_241 q1508 ?_
  obtain ⟨hg159, h⟩ := gd_e h
  obtain ⟨hg160, h⟩ := gd_e h
  obtain ⟨s161, e162, h⟩ := nam_e h
  refine r_last B e162 rfl (fun _ => isK_a hg159) hg160 dX5_init_244 ?_
  refine r_dup B dX5_init_245 rfl ?_
  refine r_iconst (v := 1) B dX5_init_246 (by decide) ?_
  refine r_ldc2 B dX5_init_247 q1509 ?_
  obtain ⟨hg163, h⟩ := gd_e h
  obtain ⟨hg164, h⟩ := gd_e h
  obtain ⟨s165, e166, h⟩ := nam_e h
  refine r_last B e166 rfl (fun _ => isK_a hg163) hg164 dX5_init_250 ?_
  refine r_dup B dX5_init_251 rfl ?_
  refine r_iconst (v := 2) B dX5_init_252 (by decide) ?_
  refine r_ldc2 B dX5_init_253 q1510 ?_
  obtain ⟨hg167, h⟩ := gd_e h
  obtain ⟨hg168, h⟩ := gd_e h
  obtain ⟨s169, e170, h⟩ := nam_e h
  refine r_last B e170 rfl (fun _ => isK_a hg167) hg168 dX5_init_256 ?_
  refine r_dup B dX5_init_257 rfl ?_
  refine r_iconst (v := 3) B dX5_init_258 (by decide) ?_
  refine r_ldc2 B dX5_init_259 q1511 ?_
  obtain ⟨hg171, h⟩ := gd_e h
  obtain ⟨hg172, h⟩ := gd_e h
  obtain ⟨s173, e174, h⟩ := nam_e h
  refine r_last B e174 rfl (fun _ => isK_a hg171) hg172 dX5_init_262 ?_
  refine r_dup B dX5_init_263 rfl ?_
  refine r_iconst (v := 4) B dX5_init_264 (by decide) ?_
  refine r_ldc2 B dX5_init_265 q1512 ?_
  obtain ⟨hg175, h⟩ := gd_e h
  obtain ⟨hg176, h⟩ := gd_e h
  obtain ⟨s177, e178, h⟩ := nam_e h
  refine r_last B e178 rfl (fun _ => isK_a hg175) hg176 dX5_init_268 ?_
  obtain ⟨hg179, h⟩ := gd_e h
  obtain ⟨s180, e181, h⟩ := nam_e h
  refine pR5F (k := 33) B e181 rfl (fun _ => isK_e hg179) rfl q1550 rfl rfl rfl rfl (Or.inr ⟨_, rfl⟩) (fun _ => h0 _) dX5_init_269 ?_
  refine r_aload_n (j := 0) B dX5_init_272 rfl rfl ?_
  refine r_iconst (v := 4) B dX5_init_273 (by decide) ?_
  obtain ⟨hg182, h⟩ := gd_e h
  obtain ⟨s183, e184, h⟩ := nam_e h
  refine r_newa 1 (by decide) B rfl (by decide) (N := 4) (by decide) rfl e184 hg182 q328 (fun _ => h0 _) dX5_init_274 ?_
  refine r_dup B dX5_init_276 rfl ?_
  refine r_iconst (v := 0) B dX5_init_277 (by decide) ?_
  refine r_ldc2 B dX5_init_278 q1513 ?_
  obtain ⟨hg185, h⟩ := gd_e h
  obtain ⟨hg186, h⟩ := gd_e h
  obtain ⟨s187, e188, h⟩ := nam_e h
  refine r_last B e188 rfl (fun _ => isK_a hg185) hg186 dX5_init_281 ?_
  refine r_dup B dX5_init_282 rfl ?_
  refine r_iconst (v := 1) B dX5_init_283 (by decide) ?_
  refine r_ldc2 B dX5_init_284 q1514 ?_
  obtain ⟨hg189, h⟩ := gd_e h
  obtain ⟨hg190, h⟩ := gd_e h
  obtain ⟨s191, e192, h⟩ := nam_e h
  refine r_last B e192 rfl (fun _ => isK_a hg189) hg190 dX5_init_287 ?_
  refine r_dup B dX5_init_288 rfl ?_
  refine r_iconst (v := 2) B dX5_init_289 (by decide) ?_
  refine r_ldc2 B dX5_init_290 q1515 ?_
  obtain ⟨hg193, h⟩ := gd_e h
  obtain ⟨hg194, h⟩ := gd_e h
  obtain ⟨s195, e196, h⟩ := nam_e h
  refine r_last B e196 rfl (fun _ => isK_a hg193) hg194 dX5_init_293 ?_
  refine r_dup B dX5_init_294 rfl ?_
  refine r_iconst (v := 3) B dX5_init_295 (by decide) ?_
  refine r_ldc2 B dX5_init_296 q1516 ?_
  obtain ⟨hg197, h⟩ := gd_e h
  obtain ⟨hg198, h⟩ := gd_e h
  obtain ⟨s199, e200, h⟩ := nam_e h
  refine r_last B e200 rfl (fun _ => isK_a hg197) hg198 dX5_init_299 ?_
  obtain ⟨hg201, h⟩ := gd_e h
  obtain ⟨s202, e203, h⟩ := nam_e h
  refine pR5F (k := 34) B e203 rfl (fun _ => isK_e hg201) rfl q1551 rfl rfl rfl rfl (Or.inr ⟨_, rfl⟩) (fun _ => h0 _) dX5_init_300 ?_
  refine r_aload_n (j := 0) B dX5_init_303 rfl rfl ?_
  refine r_bipush (v := 15) B dX5_init_304 (by decide) ?_
  obtain ⟨hg204, h⟩ := gd_e h
  obtain ⟨s205, e206, h⟩ := nam_e h
  refine r_newa 1 (by decide) B rfl (by decide) (N := 15) (by decide) rfl e206 hg204 q328 (fun _ => h0 _) dX5_init_306 ?_
  obtain ⟨hg207, h⟩ := gd_e h
  obtain ⟨s208, e209, h⟩ := nam_e h
  refine pR5F (k := 36) B e209 rfl (fun _ => isK_e hg207) rfl q1553 rfl rfl rfl rfl (Or.inr ⟨_, rfl⟩) (fun _ => h0 _) dX5_init_308 ?_
  refine r_aload_n (j := 0) B dX5_init_311 rfl rfl ?_
  refine r_bipush (v := 13) B dX5_init_312 (by decide) ?_
  obtain ⟨hg210, h⟩ := gd_e h
  obtain ⟨s211, e212, h⟩ := nam_e h
  refine r_newa 1 (by decide) B rfl (by decide) (N := 13) (by decide) rfl e212 hg210 q328 (fun _ => h0 _) dX5_init_314 ?_
  obtain ⟨hg213, h⟩ := gd_e h
  obtain ⟨s214, e215, h⟩ := nam_e h
  refine pR5F (k := 37) B e215 rfl (fun _ => isK_e hg213) rfl q1554 rfl rfl rfl rfl (Or.inr ⟨_, rfl⟩) (fun _ => h0 _) dX5_init_316 ?_
  refine r_aload_n (j := 0) B dX5_init_319 rfl rfl ?_
  refine r_sipush (v := 400) B dX5_init_320 (by decide) ?_
  obtain ⟨hg216, h⟩ := gd_e h
  obtain ⟨s217, e218, h⟩ := nam_e h
  refine r_newa 1 (by decide) B rfl (by decide) (N := 400) (by decide) rfl e218 hg216 q328 (fun _ => h0 _) dX5_init_323 ?_
  obtain ⟨hg219, h⟩ := gd_e h
  obtain ⟨s220, e221, h⟩ := nam_e h
  refine pR5F (k := 38) B e221 rfl (fun _ => isK_e hg219) rfl q1555 rfl rfl rfl rfl (Or.inr ⟨_, rfl⟩) (fun _ => h0 _) dX5_init_325 ?_
  refine r_aload_n (j := 0) B dX5_init_328 rfl rfl ?_
  refine r_bipush (v := 37) B dX5_init_329 (by decide) ?_
  obtain ⟨hg222, h⟩ := gd_e h
  obtain ⟨s223, e224, h⟩ := nam_e h
  refine r_newa 0 (by decide) B rfl (by decide) (N := 37) (by decide) rfl e224 hg222 q204 (fun _ => h0 _) dX5_init_331 ?_
  obtain ⟨hg225, h⟩ := gd_e h
  obtain ⟨s226, e227, h⟩ := nam_e h
  refine pR5F (k := 42) B e227 rfl (fun _ => isK_e hg225) rfl q1559 rfl rfl rfl rfl (Or.inr ⟨_, rfl⟩) (fun _ => h0 _) dX5_init_333 ?_
  refine r_aload_n (j := 0) B dX5_init_336 rfl rfl ?_
  refine r_bipush (v := 9) B dX5_init_337 (by decide) ?_
  obtain ⟨hg228, h⟩ := gd_e h
  obtain ⟨s229, e230, h⟩ := nam_e h
  refine r_newa 0 (by decide) B rfl (by decide) (N := 9) (by decide) rfl e230 hg228 q204 (fun _ => h0 _) dX5_init_339 ?_
  obtain ⟨hg231, h⟩ := gd_e h
  obtain ⟨s232, e233, h⟩ := nam_e h
  refine pR5F (k := 43) B e233 rfl (fun _ => isK_e hg231) rfl q1560 rfl rfl rfl rfl (Or.inr ⟨_, rfl⟩) (fun _ => h0 _) dX5_init_341 ?_
  refine r_aload_n (j := 0) B dX5_init_344 rfl rfl ?_
  refine r_bipush (v := 9) B dX5_init_345 (by decide) ?_
  obtain ⟨hg234, h⟩ := gd_e h
  obtain ⟨s235, e236, h⟩ := nam_e h
  refine r_newa 0 (by decide) B rfl (by decide) (N := 9) (by decide) rfl e236 hg234 q204 (fun _ => h0 _) dX5_init_347 ?_
  obtain ⟨hg237, h⟩ := gd_e h
  obtain ⟨s238, e239, h⟩ := nam_e h
  refine pR5F (k := 44) B e239 rfl (fun _ => isK_e hg237) rfl q1561 rfl rfl rfl rfl (Or.inr ⟨_, rfl⟩) (fun _ => h0 _) dX5_init_349 ?_
  refine r_aload_n (j := 0) B dX5_init_352 rfl rfl ?_
  refine r_bipush (v := 6) B dX5_init_353 (by decide) ?_
  obtain ⟨hg240, h⟩ := gd_e h
  obtain ⟨s241, e242, h⟩ := nam_e h
  refine r_newa 3 (by decide) B rfl (by decide) (N := 6) (by decide) rfl e242 hg240 q1719 (fun _ => h0 _) dX5_init_355 ?_
  obtain ⟨hg243, h⟩ := gd_e h
  obtain ⟨s244, e245, h⟩ := nam_e h
  refine pR5F (k := 48) B e245 rfl (fun _ => isK_e hg243) rfl q1565 rfl rfl rfl rfl (Or.inr ⟨_, rfl⟩) (fun _ => h0 _) dX5_init_357 ?_
  refine r_aload_n (j := 0) B dX5_init_360 rfl rfl ?_
  refine r_bipush (v := 7) B dX5_init_361 (by decide) ?_
  obtain ⟨hg246, h⟩ := gd_e h
  obtain ⟨s247, e248, h⟩ := nam_e h
  refine r_newa 0 (by decide) B rfl (by decide) (N := 7) (by decide) rfl e248 hg246 q204 (fun _ => h0 _) dX5_init_363 ?_
  obtain ⟨hg249, h⟩ := gd_e h
  obtain ⟨s250, e251, h⟩ := nam_e h
  refine pR5F (k := 51) B e251 rfl (fun _ => isK_e hg249) rfl q1568 rfl rfl rfl rfl (Or.inr ⟨_, rfl⟩) (fun _ => h0 _) dX5_init_365 ?_
  refine r_aload_n (j := 0) B dX5_init_368 rfl rfl ?_
  refine r_bipush (v := 96) B dX5_init_369 (by decide) ?_
  obtain ⟨hg252, h⟩ := gd_e h
  obtain ⟨s253, e254, h⟩ := nam_e h
  refine r_newa 0 (by decide) B rfl (by decide) (N := 96) (by decide) rfl e254 hg252 q204 (fun _ => h0 _) dX5_init_371 ?_
  obtain ⟨hg255, h⟩ := gd_e h
  obtain ⟨s256, e257, h⟩ := nam_e h
  refine pR5F (k := 58) B e257 rfl (fun _ => isK_e hg255) rfl q1575 rfl rfl rfl rfl (Or.inr ⟨_, rfl⟩) (fun _ => h0 _) dX5_init_373 ?_
  refine r_aload_n (j := 0) B dX5_init_376 rfl rfl ?_
  refine r_iconst (v := -1) B dX5_init_377 (by decide) ?_
  obtain ⟨hg258, h⟩ := gd_e h
  obtain ⟨s259, e260, h⟩ := nam_e h
  refine pI5 (k := 61) B e260 rfl (fun _ => isK_e hg258) rfl q1578 rfl rfl (fun _ _ _ => rfl) rfl dX5_init_378 ?_
  refine r_aload_n (j := 0) B dX5_init_381 rfl rfl ?_
  refine r_bipush (v := 12) B dX5_init_382 (by decide) ?_
  obtain ⟨hg261, h⟩ := gd_e h
  obtain ⟨s262, e263, h⟩ := nam_e h
  refine r_newa 0 (by decide) B rfl (by decide) (N := 12) (by decide) rfl e263 hg261 q204 (fun _ => h0 _) dX5_init_384 ?_
  obtain ⟨hg264, h⟩ := gd_e h
  obtain ⟨s265, e266, h⟩ := nam_e h
  refine pR5F (k := 64) B e266 rfl (fun _ => isK_e hg264) rfl q1581 rfl rfl rfl rfl (Or.inr ⟨_, rfl⟩) (fun _ => h0 _) dX5_init_386 ?_
  refine r_aload_n (j := 0) B dX5_init_389 rfl rfl ?_
  obtain ⟨hg267, h⟩ := gd_e h
  refine g5 (k := 3) B (vr (sr s265 this 3)) rfl (fun _ => isK_e hg267) rfl q1520 rfl (fun _ => rfl) dX5_init_390 ?_
  refine r_iconst (v := 3) B dX5_init_393 (by decide) ?_
  refine r_iconst (v := -1) B dX5_init_394 (by decide) ?_
  obtain ⟨a268, ea269, h⟩ := drf_e h
  obtain ⟨hg270, h⟩ := gd_e h
  obtain ⟨hg271, h⟩ := gd_e h
  obtain ⟨s272, e273, h⟩ := nam_e h
  refine r_iast B e273 ea269 (fun _ => isK_a hg270) hg271 dX5_init_395 ?_
  refine r_aload_n (j := 0) B dX5_init_396 rfl rfl ?_
  obtain ⟨hg274, h⟩ := gd_e h
  refine g5 (k := 3) B (vr (sr s272 this 3)) rfl (fun _ => isK_e hg274) rfl q1520 rfl (fun _ => rfl) dX5_init_397 ?_
  refine r_iconst (v := 4) B dX5_init_400 (by decide) ?_
  refine r_iconst (v := 3) B dX5_init_401 (by decide) ?_
  obtain ⟨a275, ea276, h⟩ := drf_e h
  obtain ⟨hg277, h⟩ := gd_e h
  obtain ⟨hg278, h⟩ := gd_e h
  obtain ⟨s279, e280, h⟩ := nam_e h
  refine r_iast B e280 ea276 (fun _ => isK_a hg277) hg278 dX5_init_402 ?_
  refine r_aload_n (j := 0) B dX5_init_403 rfl rfl ?_
  obtain ⟨hg281, h⟩ := gd_e h
  refine g5 (k := 3) B (vr (sr s279 this 3)) rfl (fun _ => isK_e hg281) rfl q1520 rfl (fun _ => rfl) dX5_init_404 ?_
  refine r_bipush (v := 6) B dX5_init_407 (by decide) ?_
  refine r_iconst (v := 3) B dX5_init_409 (by decide) ?_
  obtain ⟨a282, ea283, h⟩ := drf_e h
  obtain ⟨hg284, h⟩ := gd_e h
  obtain ⟨hg285, h⟩ := gd_e h
  obtain ⟨s286, e287, h⟩ := nam_e h
  refine r_iast B e287 ea283 (fun _ => isK_a hg284) hg285 dX5_init_410 ?_
  refine r_aload_n (j := 0) B dX5_init_411 rfl rfl ?_
  obtain ⟨hg288, h⟩ := gd_e h
  refine g5 (k := 3) B (vr (sr s286 this 3)) rfl (fun _ => isK_e hg288) rfl q1520 rfl (fun _ => rfl) dX5_init_412 ?_
  refine r_bipush (v := 7) B dX5_init_415 (by decide) ?_
  refine r_iconst (v := 3) B dX5_init_417 (by decide) ?_
  obtain ⟨a289, ea290, h⟩ := drf_e h
  obtain ⟨hg291, h⟩ := gd_e h
  obtain ⟨hg292, h⟩ := gd_e h
  obtain ⟨s293, e294, h⟩ := nam_e h
  refine r_iast B e294 ea290 (fun _ => isK_a hg291) hg292 dX5_init_418 ?_
  refine r_aload_n (j := 0) B dX5_init_419 rfl rfl ?_
  obtain ⟨hg295, h⟩ := gd_e h
  refine g5 (k := 3) B (vr (sr s293 this 3)) rfl (fun _ => isK_e hg295) rfl q1520 rfl (fun _ => rfl) dX5_init_420 ?_
  refine r_bipush (v := 8) B dX5_init_423 (by decide) ?_
  refine r_iconst (v := 2) B dX5_init_425 (by decide) ?_
  obtain ⟨a296, ea297, h⟩ := drf_e h
  obtain ⟨hg298, h⟩ := gd_e h
  obtain ⟨hg299, h⟩ := gd_e h
  obtain ⟨s300, e301, h⟩ := nam_e h
  refine r_iast B e301 ea297 (fun _ => isK_a hg298) hg299 dX5_init_426 ?_
  refine r_aload_n (j := 0) B dX5_init_427 rfl rfl ?_
  obtain ⟨hg302, h⟩ := gd_e h
  refine g5 (k := 3) B (vr (sr s300 this 3)) rfl (fun _ => isK_e hg302) rfl q1520 rfl (fun _ => rfl) dX5_init_428 ?_
  refine r_bipush (v := 10) B dX5_init_431 (by decide) ?_
  refine r_iconst (v := -1) B dX5_init_433 (by decide) ?_
  obtain ⟨a303, ea304, h⟩ := drf_e h
  obtain ⟨hg305, h⟩ := gd_e h
  obtain ⟨hg306, h⟩ := gd_e h
  obtain ⟨s307, e308, h⟩ := nam_e h
  refine r_iast B e308 ea304 (fun _ => isK_a hg305) hg306 dX5_init_434 ?_
  refine r_aload_n (j := 0) B dX5_init_435 rfl rfl ?_
  obtain ⟨hg309, h⟩ := gd_e h
  refine g5 (k := 3) B (vr (sr s307 this 3)) rfl (fun _ => isK_e hg309) rfl q1520 rfl (fun _ => rfl) dX5_init_436 ?_
  refine r_bipush (v := 11) B dX5_init_439 (by decide) ?_
  refine r_bipush (v := 9) B dX5_init_441 (by decide) ?_
  obtain ⟨a310, ea311, h⟩ := drf_e h
  obtain ⟨hg312, h⟩ := gd_e h
  obtain ⟨hg313, h⟩ := gd_e h
  obtain ⟨s314, e315, h⟩ := nam_e h
  refine r_iast B e315 ea311 (fun _ => isK_a hg312) hg313 dX5_init_443 ?_
  exact r_vret B dX5_init_444 h
set_option maxHeartbeats 4000000 in
theorem cw_X5_init {X : CX} {fr lo : Nat} (h1 : Nat.ble (1 + 1) fr = true) (h2 : Nat.ble (20 + 20) lo = true) : CW X fr lo yX5_init cX5_init 1 none 1 20 0 := ⟨q1492, q136, ⟨by decide +kernel, by decide +kernel, by decide +kernel⟩, Nat.le_of_ble_eq_true h1, Nat.le_of_ble_eq_true h2⟩

