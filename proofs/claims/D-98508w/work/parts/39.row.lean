set_option maxRecDepth 100000
/-! ===== the component: a row of catchers from the tape ===== -/
theorem comesZ_0 {w : WR} {ls : List (List DC)} {a b c d : Int} (h : comesZ w ls a b c d = 0) (hW : Wf w ls) : ((0 ≤ a ∧ a ≤ 35) ∧ (0 ≤ b ∧ b ≤ 3) ∧ (-9 ≤ c ∧ c ≤ 9) ∧ (1 ≤ d ∧ d ≤ 9)) ∧ w 2 8 < 6 ∧ whoZ (w 3) (w 2 8) a = -1 := by
  have hm := hW.1
  unfold comesZ at h
  split at h
  · omega
  · rename_i h1
    split at h
    · omega
    · rename_i h2
      split at h
      · omega
      · exact ⟨Classical.byContradiction h1, by omega, Classical.byContradiction fun z => h2 (Or.inl z)⟩
theorem Wf.comes {w : WR} {ls : List (List DC)} (hW : Wf w ls) {a b c d : Int} (h : comesZ w ls a b c d = 0) : Wf (comesW w a b c d) ls := by
  obtain ⟨⟨q1, q2, q3, q4⟩, q5, -⟩ := comesZ_0 h hW
  obtain ⟨h1, h2, h3, h4, h5, h6, h7⟩ := hW
  have e2 : ∀ k, k ≠ 8 → comesW w a b c d 2 k = w 2 k := fun k hk => by
    unfold comesW
    rw [wup_k hk, wup_n (by decide), wup_n (by decide), wup_n (by decide), wup_n (by decide), wup_n (by decide)]
  have e9 : ∀ r k, 8 ≤ r → comesW w a b c d r k = w r k := fun r k hr => by
    unfold comesW
    rw [wup_n (by omega), wup_n (by omega), wup_n (by omega), wup_n (by omega), wup_n (by omega), wup_n (by omega)]
  have e8 : comesW w a b c d 2 8 = w 2 8 + 1 := by unfold comesW; rw [wup_s]
  refine ⟨by rw [e8]; omega, by rw [e2 _ (by decide)]; exact h2, by rw [e2 _ (by decide)]; exact h3, h4, fun k k0 k6 => ?_, by simp only [e9 8 _ (by decide)]; exact h6, by simp only [e9 9 _ (by decide)]; exact h7⟩
  have := h5 k k0 k6
  have e3 : comesW w a b c d 3 k = if k = w 2 8 then a else w 3 k := by
    unfold comesW
    rw [wup_n (by decide), wup_n (by decide), wup_n (by decide), wup_n (by decide), wup_n (by decide)]
    unfold wup
    simp
  have e4 : comesW w a b c d 4 k = if k = w 2 8 then b else w 4 k := by
    unfold comesW
    rw [wup_n (by decide), wup_n (by decide), wup_n (by decide), wup_n (by decide)]
    unfold wup
    simp
  have e5 : comesW w a b c d 5 k = if k = w 2 8 then c else w 5 k := by
    unfold comesW
    rw [wup_n (by decide), wup_n (by decide), wup_n (by decide)]
    unfold wup
    simp
  have e6 : comesW w a b c d 6 k = if k = w 2 8 then d else w 6 k := by
    unfold comesW
    rw [wup_n (by decide), wup_n (by decide)]
    unfold wup
    simp
  have e7 : comesW w a b c d 7 k = if k = w 2 8 then -1 else w 7 k := by
    unfold comesW
    rw [wup_n (by decide)]
    unfold wup
    simp
  rw [e3, e4, e5, e6, e7]
  omega
theorem comesV_o {w : WR} {ls : List (List DC)} {a b c d k : Int} {r : Nat} (h : r < 2 ∨ 8 ≤ r) : comesV w ls a b c d r k = w r k := by
  unfold comesV
  split
  · unfold comesW
    rw [wup_n (by omega), wup_n (by omega), wup_n (by omega), wup_n (by omega), wup_n (by omega), wup_n (by omega)]
  · rfl
theorem Wf.cmV {w : WR} {ls : List (List DC)} (hW : Wf w ls) {a b c d : Int} : Wf (comesV w ls a b c d) ls := by
  unfold comesV
  split
  · rename_i h
    exact hW.comes h
  · exact hW
/-- whether the four bytes at `at` are a catcher that can come -/
def rowP (w : WR) (ls : List (List DC)) (i : Int) : Prop := (0 ≤ w 19 (i + 2) ∧ w 19 (i + 2) ≤ 9) ∧ comesZ w ls (w 19 i) (w 19 (i + 1)) (w 19 (i + 2)) (w 19 (i + 3)) = 0
noncomputable def rowW (w : WR) (ls : List (List DC)) (i : Int) : WR := @ite _ (rowP w ls i) (Classical.propDecidable _) (wup (comesW w (w 19 i) (w 19 (i + 1)) (w 19 (i + 2)) (w 19 (i + 3))) 0 13 (w 0 13 + 0)) (wup w 0 13 (w 0 13 + 1))
noncomputable def rowF (ls : List (List DC)) : Nat → Int → WR → Int → Int × WR
  | 0, _, w, n => (n, w)
  | q + 1, i, w, n => rowF ls q (i + 4) (rowW w ls i) (n + bZ (rowP w ls i))
theorem rowW_o {w : WR} {ls : List (List DC)} {i k : Int} {r : Nat} (h : r = 1 ∨ 8 ≤ r) : rowW w ls i r k = w r k := by
  unfold rowW comesW
  split
  · rw [wup_n (by omega), wup_n (by omega), wup_n (by omega), wup_n (by omega), wup_n (by omega), wup_n (by omega), wup_n (by omega)]
  · rw [wup_n (by omega)]
theorem Wf.row {w : WR} {ls : List (List DC)} (hW : Wf w ls) {i : Int} : Wf (rowW w ls i) ls := by
  unfold rowW
  split
  · rename_i h
    exact (hW.comes h.2).same fun r k hr => wup_n (by omega)
  · exact hW.same fun r k hr => wup_n (by omega)
def tapeOk (w : WR) : Prop := ∀ k, 0 ≤ k → k < 400 → -128 ≤ w 19 k ∧ w 19 k ≤ 127
theorem e_X0_row_40 {D : Nat → Prop} {ls : List (List DC)} {m : Int} (hm : 0 ≤ m ∧ m ≤ 400) : ∀ (q : Nat) (i : Int) (s : St) (w : WR) (n : Int), C0 D s w ls → Wf w ls → tapeOk w → 0 ≤ i → (i + 4 * q ≤ m ∧ m < i + 4 * q + 4) → (0 ≤ n ∧ n ≤ i) → ∀ fu, q < fu → Op D s ls (F_X0_row_40 fu s (iI m) (iI n) (iI i)) (rowF ls q i w n).1 (wup (wup (rowF ls q i w n).2 0 15 0) 0 0 0) := by
  intro q
  induction q with
  | zero =>
    intro i s w n hC hW hT h0 hq hn fu hfu
    obtain ⟨g, rfl⟩ : ∃ g, fu = g + 1 := ⟨fu - 1, by omega⟩
    simp only [F_X0_row_40]
    rw [k_4, iI_add, if_pos (by rw [iI_lt (by omega) (by omega)]; omega)]
    exact (Op.settled hC n).bnd
  | succ q ih =>
    intro i s w n hC hW hT h0 hq hn fu hfu
    obtain ⟨g, rfl⟩ : ∃ g, fu = g + 1 := ⟨fu - 1, by omega⟩
    have t0 := hT i (by omega) (by omega)
    have t1 := hT (i + 1) (by omega) (by omega)
    have t2 := hT (i + 2) (by omega) (by omega)
    have t3 := hT (i + 3) (by omega) (by omega)
    have b := bZ_01 (rowP w ls i)
    have nx : ∀ s1, C0 D s1 (rowW w ls i) ls → Op D s1 ls (F_X0_row_40 g s1 (iI m) (iI (n + bZ (rowP w ls i))) (iI (i + 4))) (rowF ls (q + 1) i w n).1 (wup (wup (rowF ls (q + 1) i w n).2 0 15 0) 0 0 0) := fun s1 hC1 =>
      ih (i + 4) s1 (rowW w ls i) (n + bZ (rowP w ls i)) hC1 hW.row (fun k k0 k1 => by rw [rowW_o (by omega)]; exact hT k k0 k1) (by omega) (by omega) (by omega) g (by omega)
    have bad : ¬ rowP w ls i → ∀ s1, C0 D s1 w ls → Op D s1 ls (F_X0_row_105 (F_X0_row_40 g) s1 (iI m) (iI n) (iI i)) (rowF ls (q + 1) i w n).1 (wup (wup (rowF ls (q + 1) i w n).2 0 15 0) 0 0 0) := fun hp s1 hC1 => by
      have hC2 := hC1.set 0 (k := 13) (v := w 0 13 + 1) (by omega) (by decide)
      have e13 : si s1 0 13 = iI (w 0 13) := hC1.2.1.o (k := 13) (rel0 (by omega)) (by omega)
      have hw : rowW w ls i = wup w 0 13 (w 0 13 + 1) := if_neg hp
      rw [← hw] at hC2
      have hx := nx _ hC2
      unfold F_X0_row_105 F_X0_row_106 F_X0_row_119 F_X0_row_136
      rw [if_pos rfl, if_pos rfl, nam_v, e13, k_1, k_0, k_4, iI_add, iI_add, iI_add, Int.add_zero]
      rw [bZ_f hp, Int.add_zero] at hx
      exact hx.after (Sm.set (by decide))
    simp only [F_X0_row_40]
    rw [k_4, k_2, k_1, k_3, k_0, k_9, iI_add, iI_add, iI_add, iI_add, if_neg (by rw [iI_lt (by omega) (by omega)]; omega), inb_g (by omega), iI_nat (by omega), iI_nat (by omega), iI_nat (by omega), iI_nat (by omega), hC.2.1 19 (i + 2) (by omega) (by show _ < _; omega), e_X0_in s (by omega) (by omega) (by omega), bnd_s]
    by_cases a1 : 0 ≤ w 19 (i + 2) ∧ w 19 (i + 2) ≤ 9
    · obtain ⟨s1, e, hC1, hS1⟩ := e_X0_comesIn hC hW (cell := w 19 i) (reach := w 19 (i + 1)) (want := w 19 (i + 2)) (tall := w 19 (i + 3)) (by omega) (by omega) (by omega) (by omega)
      have hz := comesZ_r (w := w) (ls := ls) (a := w 19 i) (b := w 19 (i + 1)) (c := w 19 (i + 2)) (d := w 19 (i + 3))
      rw [if_neg (by rw [bZ_i0]; exact fun z => z a1), inb_g (by omega), inb_g (by omega), inb_g (by omega), inb_g (by omega), hC.2.1 19 (i + 2) (by omega) (by show _ < _; omega), hC.2.1 19 (i + 1) (by omega) (by show _ < _; omega), hC.2.1 19 (i + 3) (by omega) (by show _ < _; omega), hC.2.1 19 i (by omega) (by show _ < _; omega), e, bnd_s]
      unfold comesV at hC1
      by_cases a2 : comesZ w ls (w 19 i) (w 19 (i + 1)) (w 19 (i + 2)) (w 19 (i + 3)) = 0
      · have hp : rowP w ls i := ⟨a1, a2⟩
        rw [if_pos a2] at hC1
        have e13 : si s1 0 13 = iI (w 0 13) := by
          have := hC1.2.1.o (k := 13) (rel0 (by omega)) (by omega)
          unfold comesW at this
          rw [wup_n (by decide), wup_n (by decide), wup_n (by decide), wup_n (by decide), wup_n (by decide), wup_n (by decide)] at this
          exact this
        have hC2 := hC1.set 0 (k := 13) (v := w 0 13 + 0) (by omega) (by decide)
        have hw : rowW w ls i = wup (comesW w (w 19 i) (w 19 (i + 1)) (w 19 (i + 2)) (w 19 (i + 3))) 0 13 (w 0 13 + 0) := if_pos hp
        rw [← hw] at hC2
        have hx := nx _ hC2
        rw [bZ_t hp] at hx
        rw [if_pos (by rw [a2])]
        unfold F_X0_row_106 F_X0_row_119 F_X0_row_136
        rw [if_neg (by decide), if_neg (by decide), nam_v, e13, k_1, k_0, k_4, iI_add, iI_add, iI_add]
        exact hx.after (hS1.tr (Sm.set (by decide)))
      · rw [if_neg a2] at hC1
        rw [if_neg (by rw [iI_eq (by omega) (by omega)]; exact a2)]
        exact (bad (fun z => a2 z.2) s1 hC1).after hS1
    · rw [if_pos (by rw [bZ_i0]; exact a1)]
      exact bad (fun z => a1 z.1) s hC
noncomputable def rowsW (w : WR) : WR := wup (wup w 0 11 0) 0 13 (if w 0 11 % 4 = 0 then 0 else 1)
noncomputable def rowV (w : WR) (ls : List (List DC)) : Int := if w 0 11 = 0 then -6 else (rowF ls (w 0 11 / 4).toNat 0 (rowsW w) 0).1
noncomputable def rowRW (w : WR) (ls : List (List DC)) : WR := if w 0 11 = 0 then refW (wup w 0 11 0) (-6) else wup (wup (rowF ls (w 0 11 / 4).toNat 0 (rowsW w) 0).2 0 15 0) 0 0 0
theorem x_row {D : Nat → Prop} {s : St} {w : WR} {ls : List (List DC)} (hC : C0 D s w ls) (hW : Wf w ls) (hX : Wx w) (hT : tapeOk w) : Op D s ls (F_X0_row s) (rowV w ls) (rowRW w ls) := by
  have ht := hX.1
  have hC1 := hC.set 0 (k := 11) (v := 0) (by omega) (by decide)
  unfold F_X0_row rowV rowRW
  rw [hC.2.1.taped, k_m6, k_4, k_1, k_0, nam_v]
  by_cases h : w 0 11 = 0
  · rw [if_pos (by rw [h]), if_pos h, if_pos h]
    exact (Op.refuse hC1 (by omega)).bnd.after (Sm.set (by decide))
  · rw [if_neg (by rw [iI_eq (by omega) (by omega)]; exact h), if_neg h, if_neg h, iI_remn (by omega) (by omega)]
    have key : ∀ z : Int, z = (if w 0 11 % 4 = 0 then 0 else 1) → Op D s ls (F_X0_row_35 (setI s 0 11 (iI 0)) (iI (w 0 11)) (iI 0) (iI z)) (rowF ls (w 0 11 / 4).toNat 0 (rowsW w) 0).1 (wup (wup (rowF ls (w 0 11 / 4).toNat 0 (rowsW w) 0).2 0 15 0) 0 0 0) := fun z hz => by
      have hC2 := hC1.set 0 (k := 13) (v := z) (by omega) (by decide)
      have hr : wup (wup w 0 11 0) 0 13 z = rowsW w := by unfold rowsW; rw [hz]
      rw [hr] at hC2
      have hW2 : Wf (rowsW w) ls := hW.same fun r k hr => by
        unfold rowsW
        rw [wup_n (by omega), wup_n (by omega)]
      have hT2 : tapeOk (rowsW w) := fun k k0 k1 => by
        unfold rowsW
        rw [wup_n (by decide), wup_n (by decide)]
        exact hT k k0 k1
      have := e_X0_row_40 (D := D) (ls := ls) (m := w 0 11) (by omega) (w 0 11 / 4).toNat 0 _ (rowsW w) 0 hC2 hW2 hT2 (by omega) (by omega) (by omega) FU (FU_ge (by omega))
      unfold F_X0_row_35
      rw [nam_v, k_0]
      exact this.after ((Sm.set (by decide)).tr (Sm.set (by decide)))
    by_cases h2 : w 0 11 % 4 = 0
    · rw [if_pos (by rw [h2])]
      exact key 0 (by rw [if_pos h2])
    · rw [if_neg (by rw [iI_eq (by omega) (by omega)]; exact h2)]
      exact key 1 (by rw [if_neg h2])
