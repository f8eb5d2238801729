set_option maxRecDepth 100000
/-! ===== the model: the tape, the row ===== -/
theorem M0.w {t : St} {w w' : WR} {ls : List (List DC)} (h : M0 t w ls) (g : ∀ r k, 0 ≤ k → relM r k → w' r k = w r k) : M0 t w' ls := ⟨fun r k h0 h1 => by rw [g r k h0 h1]; exact h.1 r k h0 h1, h.2⟩
/-- the tape, as the model has it -/
def TpM (t : St) (w : WR) : Prop := ∀ k : Int, 0 ≤ k → k < 400 → si t 10 k.toNat = iI (w 19 k % 256)
theorem TpM.go {t t' : St} {w w' : WR} (h : TpM t w) (hF : Fm Reg t t') (g : ∀ k, w' 19 k = w 19 k) : TpM t' w' := fun k h0 h1 => by
  rw [hF.i _ _ (by unfold Reg inM Scr; omega), g]
  exact h k h0 h1
theorem Eq9.comes {w w' : WR} {ls : List (List DC)} (h : Eq9 w w') {a b c d : Int} : comesZ w' ls a b c d = comesZ w ls a b c d := by
  have e3 : w' 3 = w 3 := funext fun k => h 3 k (by omega) (by omega)
  have e8 : w' 2 8 = w 2 8 := h 2 8 (by omega) (by omega)
  have eb : ∀ c want tall cell, barP w' ls c want tall cell = barP w ls c want tall cell := fun c want tall cell => by
    unfold barP
    rw [h.says, h 2 10 (by omega) (by omega), h 8 8 (by omega) (by omega)]
  have hc : (whoZ (w' 3) (w' 2 8) a ≠ -1 ∨ barP w' ls (w' 2 8) c d a) = (whoZ (w 3) (w 2 8) a ≠ -1 ∨ barP w ls (w 2 8) c d a) := by rw [e3, e8, eb]
  unfold comesZ
  rw [e8] at hc ⊢
  by_cases h1 : ¬((0 ≤ a ∧ a ≤ 35) ∧ (0 ≤ b ∧ b ≤ 3) ∧ (-9 ≤ c ∧ c ≤ 9) ∧ 1 ≤ d ∧ d ≤ 9)
  · rw [if_pos h1, if_pos h1]
  · rw [if_neg h1, if_neg h1]
    by_cases h2 : (whoZ (w 3) (w 2 8) a ≠ -1 ∨ barP w ls (w 2 8) c d a)
    · rw [if_pos h2, if_pos (by rw [hc]; exact h2)]
    · rw [if_neg h2, if_neg (by rw [hc]; exact h2)]
theorem e_X5_row_35 {ls : List (List DC)} {m : Int} (hm : 0 ≤ m ∧ m ≤ 400) {e : Int} : ∀ (q : Nat) (i : Int) (t : St) (w : WR) (n : Int), M0 t (wup w 0 13 (w 0 13 - e)) ls → Wf w ls → tapeOk w → TpM t w → 0 ≤ i → (i + 4 * q ≤ m ∧ m < i + 4 * q + 4) → e = (if i + 4 * q = m then 0 else 1) → (0 ≤ n ∧ n ≤ i) → ∀ fu, q + 1 < fu → OpM t ls (F_X5_row_35 fu t (iI m) (iI n) (iI i)) (iI (rowF ls q i w n).1) (wup (wup (rowF ls q i w n).2 0 15 0) 0 0 0) := by
  intro q
  induction q with
  | zero =>
    intro i t w n hM hW hT hTp h0 hi he hn fu hfu
    obtain ⟨g, rfl⟩ : ∃ g, fu = g + 2 := ⟨fu - 2, by omega⟩
    have fin : ∀ t, M0 t w ls → ∀ i g, m ≤ i → i ≤ 1000 → OpM t ls (F_X5_row_35 (g + 1) t (iI m) (iI n) (iI i)) (iI n) (wup (wup w 0 15 0) 0 0 0) := fun t hM i g h1 h2 => by
      simp only [F_X5_row_35]
      rw [if_pos (by rw [iI_le (by omega) (by omega)]; exact h1)]
      have := (OpM.settled hM (v := n) (by omega)).bn1
      unfold setlW at this
      rw [if_neg (by omega)] at this
      exact this
    show OpM t ls _ (iI n) (wup (wup w 0 15 0) 0 0 0)
    by_cases h : i + 4 * (0 : Nat) = m
    · rw [if_pos h] at he
      subst he
      have hw : wup w 0 13 (w 0 13 - 0) = w := by rw [Int.sub_zero, wup_same]
      rw [hw] at hM
      exact fin t hM i (g + 1) (by omega) (by omega)
    · rw [if_neg h] at he
      subst he
      simp only [F_X5_row_35]
      rw [if_neg (by rw [iI_le (by omega) (by omega)]; omega), k_3, iI_add, if_pos (by rw [iI_le (by omega) (by omega)]; omega)]
      unfold F_X5_row_90
      have hr : si t 0 12 = iI (w 0 13 - 1) := by
        have := hM.1 0 13 (by omega) (by show _ ∨ _; omega)
        rw [wup_s] at this
        exact this
      have hM2 := hM.set (r := 0) (k := 13) (v := w 0 13) (a := 0) (j := 12) (by show _ ∨ _; omega) (by omega) rfl rfl
      have hw : wup (wup w 0 13 (w 0 13 - 1)) 0 13 (w 0 13) = w := by
        funext r k
        unfold wup
        split
        · rename_i h; rw [h.1, h.2]
        · rfl
      rw [hw] at hM2
      rw [hr, k_1, iI_add, nam_v, k_4, iI_add, show w 0 13 - 1 + 1 = w 0 13 by omega]
      exact (fin _ hM2 (i + 4) g (by omega) (by omega)).after (Fm.reg (r := 0) (k := 13) (by show _ ∨ _; omega) (by omega) rfl rfl)
  | succ q ih =>
    intro i t w n hM hW hT hTp h0 hi he hn fu hfu
    obtain ⟨g, rfl⟩ : ∃ g, fu = g + 1 := ⟨fu - 1, by omega⟩
    have b0 := hT i (by omega) (by omega)
    have b1 := hT (i + 1) (by omega) (by omega)
    have b2 := hT (i + 2) (by omega) (by omega)
    have b3 := hT (i + 3) (by omega) (by omega)
    have c0 := hTp i (by omega) (by omega)
    have c1 := hTp (i + 1) (by omega) (by omega)
    have c2 := hTp (i + 2) (by omega) (by omega)
    have c3 := hTp (i + 3) (by omega) (by omega)
    have hE : Eq9 w (wup w 0 13 (w 0 13 - e)) := Eq9.rf.up (by omega)
    have hWe := hE.wf hW
    have he' : e = (if i + 4 + 4 * (q : Int) = m then 0 else 1) := by
      rw [he]
      congr 1
      exact propext (by omega)
    simp only [F_X5_row_35]
    rw [if_neg (by rw [iI_le (by omega) (by omega)]; omega), k_1, k_2, k_3, iI_add, iI_add, iI_add, if_neg (by rw [iI_le (by omega) (by omega)]; omega), inb_g (by omega), inb_g (by omega), inb_g (by omega), inb_g (by omega), iI_nat (by omega), iI_nat (by omega), iI_nat (by omega), iI_nat (by omega), c0, c1, c2, c3, rowF]
    have hr := cat1_r hWe (w 19 i % 256) (w 19 (i + 1) % 256) (w 19 (i + 2) % 256) (w 19 (i + 3) % 256)
    refine OpM.bnd2 (e_X5_catcher1 hM hWe (by unfold i32; omega) (by unfold i32; omega) (by unfold i32; omega) (by unfold i32; omega)) fun t1 hM1 hF1 => ?_
    have hz := comesZ_r (w := w) (ls := ls) (a := w 19 i % 256) (b := w 19 (i + 1) % 256) (c := w 19 (i + 2) % 256) (d := w 19 (i + 3) % 256)
    unfold cat1 at hr ⊢
    unfold comesV at hM1
    rw [hE.comes] at hr hM1 ⊢
    by_cases hp : rowP w ls i
    · have hc := comesZ_0 hp.2 hW
      have a0 : w 19 i % 256 = w 19 i := by omega
      have a1 : w 19 (i + 1) % 256 = w 19 (i + 1) := by omega
      have a2 : w 19 (i + 2) % 256 = w 19 (i + 2) := by have := hp.1; omega
      have a3 : w 19 (i + 3) % 256 = w 19 (i + 3) := by omega
      have hcz : comesZ w ls (w 19 i % 256) (w 19 (i + 1) % 256) (w 19 (i + 2) % 256) (w 19 (i + 3) % 256) = 0 := by rw [a0, a1, a2, a3]; exact hp.2
      rw [if_pos hcz] at hr hM1 ⊢
      have hm8 := hWe.1
      rw [if_neg (by rw [k_0, iI_lt (by omega) (by omega)]; omega), k_4, iI_add, iI_add, bZ_t hp]
      have hw : wup (rowW w ls i) 0 13 (rowW w ls i 0 13 - e) = comesW (wup w 0 13 (w 0 13 - e)) (w 19 i % 256) (w 19 (i + 1) % 256) (w 19 (i + 2) % 256) (w 19 (i + 3) % 256) := by
        rw [a0, a1, a2, a3]
        unfold rowW comesW
        rw [if_pos hp]
        funext r k
        unfold wup
        by_cases hk : r = 0 ∧ k = 13
        · obtain ⟨rfl, rfl⟩ := hk
          simp
        · simp [hk]
      rw [← hw] at hM1
      refine ih (i + 4) t1 (rowW w ls i) (n + 1) hM1 hW.row (fun k k0 k1 => by rw [rowW_o (by omega)]; exact hT k k0 k1) (hTp.go hF1 fun k => rowW_o (by omega)) (by omega) (by omega) he' (by omega) g (by omega)
    · have hcz : ¬ comesZ w ls (w 19 i % 256) (w 19 (i + 1) % 256) (w 19 (i + 2) % 256) (w 19 (i + 3) % 256) = 0 := fun z => by
        have hc := comesZ_0 z hW
        have a0 : w 19 i % 256 = w 19 i := by omega
        have a1 : w 19 (i + 1) % 256 = w 19 (i + 1) := by omega
        have a2 : w 19 (i + 2) % 256 = w 19 (i + 2) := by omega
        have a3 : w 19 (i + 3) % 256 = w 19 (i + 3) := by omega
        rw [a0, a1, a2, a3] at z
        exact hp ⟨by omega, z⟩
      rw [if_neg hcz] at hr hM1 ⊢
      rw [if_pos (by rw [k_0, iI_lt (by omega) (by omega)]; omega), bZ_f hp]
      unfold F_X5_row_90
      have hr2 : si t1 0 12 = iI (w 0 13 - e) := by
        have := hM1.1 0 13 (by omega) (by show _ ∨ _; omega)
        rw [wup_s] at this
        exact this
      have hM2 := hM1.set (r := 0) (k := 13) (v := w 0 13 - e + 1) (a := 0) (j := 12) (by show _ ∨ _; omega) (by omega) rfl rfl
      have hw : wup (rowW w ls i) 0 13 (rowW w ls i 0 13 - e) = wup (wup w 0 13 (w 0 13 - e)) 0 13 (w 0 13 - e + 1) := by
        unfold rowW
        rw [if_neg hp, wup_s]
        funext r k
        unfold wup
        by_cases hk : r = 0 ∧ k = 13
        · rw [if_pos hk, if_pos hk]; omega
        · rw [if_neg hk, if_neg hk, if_neg hk, if_neg hk]
      rw [← hw] at hM2
      have hF2 : Fm Reg t1 (setI t1 0 12 (iI (w 0 13 - e + 1))) := Fm.reg (r := 0) (k := 13) (by show _ ∨ _; omega) (by omega) rfl rfl
      rw [hr2, k_1, iI_add, nam_v, k_4, iI_add, Int.add_zero]
      exact (ih (i + 4) _ (rowW w ls i) n hM2 hW.row (fun k k0 k1 => by rw [rowW_o (by omega)]; exact hT k k0 k1) (hTp.go (hF1.tr hF2) fun k => rowW_o (by omega)) (by omega) (by omega) he' (by omega) g (by omega)).after hF2
theorem m_row {t : St} {w : WR} {ls : List (List DC)} (hM : M0 t w ls) (hW : Wf w ls) (hX : Wx w) (hT : tapeOk w) (hTp : TpM t w) : OpM t ls (F_X5_row t) (iI (rowV w ls)) (rowRW w ls) := by
  have ht := hX.1
  unfold F_X5_row rowV rowRW
  rw [nam_v]
  refine OpM.after hM.thrown.2 ?_
  have hTp1 : TpM (setI t 0 0 (0 : Int32)) w := hTp.go hM.thrown.2 fun _ => rfl
  have hM1 := hM.thrown.1
  generalize setI t 0 0 (0 : Int32) = t1 at hM1 hTp1 ⊢
  have hF2 : Fm Reg t1 (setI t1 0 14 (iI 0)) := Fm.reg (r := 0) (k := 11) (by show _ ∨ _; omega) (by omega) rfl rfl
  have hM2 := hM1.set (r := 0) (k := 11) (v := 0) (a := 0) (j := 14) (by show _ ∨ _; omega) (by omega) rfl rfl
  rw [hM1.1.taped, k_m6, k_0, nam_v, nam_v]
  by_cases h : w 0 11 = 0
  · rw [if_pos (by rw [h]), if_pos h, if_pos h]
    exact (OpM.tellN hM2 (by omega)).after hF2
  · rw [if_neg (by rw [iI_eq (by omega) (by omega)]; exact h), if_neg h, if_neg h]
    have hF3 : Fm Reg (setI t1 0 14 (iI 0)) (setI (setI t1 0 14 (iI 0)) 0 12 (iI 0)) := Fm.reg (r := 0) (k := 13) (by show _ ∨ _; omega) (by omega) rfl rfl
    have hM3 := hM2.set (r := 0) (k := 13) (v := 0) (a := 0) (j := 12) (by show _ ∨ _; omega) (by omega) rfl rfl
    have hW3 : Wf (rowsW w) ls := hW.same fun r k hr => by
      unfold rowsW
      rw [wup_n (by omega), wup_n (by omega)]
    have hT3 : tapeOk (rowsW w) := fun k k0 k1 => by
      unfold rowsW
      rw [wup_n (by decide), wup_n (by decide)]
      exact hT k k0 k1
    have hw : wup (rowsW w) 0 13 (rowsW w 0 13 - (if 0 + 4 * ((w 0 11 / 4).toNat : Int) = w 0 11 then 0 else 1)) = wup (wup w 0 11 0) 0 13 0 := by
      have : (if 0 + 4 * ((w 0 11 / 4).toNat : Int) = w 0 11 then (0 : Int) else 1) = (if w 0 11 % 4 = 0 then 0 else 1) := by
        congr 1
        exact propext (by omega)
      rw [this]
      unfold rowsW
      rw [wup_s]
      funext r k
      unfold wup
      by_cases hk : r = 0 ∧ k = 13
      · rw [if_pos hk, if_pos hk]; omega
      · rw [if_neg hk, if_neg hk, if_neg hk]
    have := e_X5_row_35 (ls := ls) (m := w 0 11) (by omega) (w 0 11 / 4).toNat 0 _ (rowsW w) 0 (by rw [hw]; exact hM3) hW3 hT3 (hTp1.go (hF2.tr hF3) fun k => by unfold rowsW; rw [wup_n (by decide), wup_n (by decide)]) (by omega) (by omega) rfl (by omega) FU (FU_ge (by omega))
    exact this.after (hF2.tr hF3)
theorem and255 {z : Int} : iI z &&& 255 = iI (z % 256) := by
  rw [← Int32.toBitVec_inj]
  show (iI z).toBitVec &&& 255#32 = (iI (z % 256)).toBitVec
  unfold iI
  rw [Int32.toBitVec_ofInt, Int32.toBitVec_ofInt]
  apply BitVec.eq_of_toNat_eq
  rw [BitVec.toNat_and, BitVec.toNat_ofInt, BitVec.toNat_ofInt]
  rw [show (255#32).toNat = 2 ^ 8 - 1 from rfl, Nat.and_two_pow_sub_one_eq_mod]
  omega
theorem byte_m {v k : Int} (hv : i32 v) (hk : k = 24 ∨ k = 16 ∨ k = 8 ∨ k = 0) : (iI v >>> (iI k &&& 31)) &&& 255 = iI (b8 v k.toNat % 256) := by
  rw [shr_t hv hk, and255]
  congr 1
  unfold b8
  exact (Int.bmod_emod).symm
/-- a call that changes the tape too -/
def StpM (a j : Nat) : Prop := Reg a j ∨ a = 10
theorem M0.tape {t : St} {w : WR} {ls : List (List DC)} (h : M0 t w ls) (hT : TpM t w) {k v : Int} (hk : 0 ≤ k ∧ k < 400) : M0 (setI t 10 k.toNat (iI (v % 256))) (wup w 19 k v) ls ∧ TpM (setI t 10 k.toNat (iI (v % 256))) (wup w 19 k v) ∧ Fm StpM t (setI t 10 k.toNat (iI (v % 256))) := by
  have hF : Fm (fun a _ => a = 10) t (setI t 10 k.toNat (iI (v % 256))) := Fm.set rfl
  refine ⟨?_, fun j j0 j1 => ?_, hF.le fun _ _ z => Or.inr z⟩
  · obtain ⟨h1, h2, h3, h4⟩ := h
    have : M0 (setI t 10 k.toNat (iI (v % 256))) w ls := ⟨h1.go hF fun a j => by unfold inM; omega, by rw [hF.i _ _ (by omega)]; exact h2, by rw [hF.i _ _ (by omega)]; exact h3, fun i law e => (h4 i law e).go fun j _ _ => hF.i _ _ (by omega)⟩
    exact this.w fun r k h0 h1 => wup_n (fun z => by subst z; exact h1.elim)
  · rw [si_set, if_pos rfl]
    unfold wup
    by_cases e : j = k
    · subst e
      simp
    · rw [if_neg (by omega), if_neg (fun z => e z.2)]
      exact hT j j0 j1
theorem Fm.stpm {t t' : St} (h : Fm Reg t t') : Fm StpM t t' := h.le fun _ _ z => Or.inl z
theorem e_X5_four_1 {t : St} {w : WR} {ls : List (List DC)} (hM : M0 t w ls) (hT : TpM t w) (ht : 0 ≤ w 0 11 ∧ w 0 11 < 400) {v k : Int} (hv : i32 v) (hk : k = 24 ∨ k = 16 ∨ k = 8 ∨ k = 0) {fu : Nat} : ∃ t1, M0 t1 (four1 w v k.toNat) ls ∧ TpM t1 (four1 w v k.toNat) ∧ Fm StpM t t1 ∧ F_X5_four_3 (fu + 1) t (iI v) (iI k) = F_X5_four_3 fu t1 (iI v) (iI (k - 8)) := by
  obtain ⟨hM1, hT1, hF1⟩ := hM.tape hT (k := w 0 11) (v := b8 v k.toNat) (by omega)
  have hM2 := hM1.set (r := 0) (k := 11) (v := w 0 11 + 1) (a := 0) (j := 14) (by show _ ∨ _; omega) (by omega) rfl rfl
  have hF2 : Fm Reg (setI t 10 (w 0 11).toNat (iI (b8 v k.toNat % 256))) (setI (setI t 10 (w 0 11).toNat (iI (b8 v k.toNat % 256))) 0 14 (iI (w 0 11 + 1))) := Fm.reg (r := 0) (k := 11) (by show _ ∨ _; omega) (by omega) rfl rfl
  have e1 := hM1.1.taped
  rw [wup_n (by decide)] at e1
  refine ⟨_, hM2, hT1.go hF2 fun k => wup_n (by decide), hF1.tr hF2.stpm, ?_⟩
  simp only [F_X5_four_3]
  rw [if_neg (by rw [k_0, iI_lt (by omega) (by omega)]; omega), hM.1.taped, inb_g (by omega), nam_v, iI_nat (by omega), byte_m hv hk, e1, k_1, iI_add, nam_v, k_m8, iI_add]
  rfl
theorem e_X5_four {t : St} {w : WR} {ls : List (List DC)} (hM : M0 t w ls) (hT : TpM t w) (ht : 0 ≤ w 0 11 ∧ w 0 11 ≤ 396) {v : Int} (hv : i32 v) : ∃ t1, F_X5_four t (iI v) = some ((), t1) ∧ M0 t1 (fourW w v) ls ∧ TpM t1 (fourW w v) ∧ Fm StpM t t1 := by
  unfold F_X5_four
  have hF : ∃ f, FU = f + 5 := ⟨1048571, rfl⟩
  obtain ⟨f, hF⟩ := hF
  obtain ⟨s1, c1, d1, m1, e1⟩ := e_X5_four_1 hM hT (by omega) hv (k := 24) (by omega) (fu := f + 4)
  obtain ⟨s2, c2, d2, m2, e2⟩ := e_X5_four_1 c1 d1 (by rw [four1_11]; omega) hv (k := 16) (by omega) (fu := f + 3)
  obtain ⟨s3, c3, d3, m3, e3⟩ := e_X5_four_1 c2 d2 (by rw [four1_11, four1_11]; omega) hv (k := 8) (by omega) (fu := f + 2)
  obtain ⟨s4, c4, d4, m4, e4⟩ := e_X5_four_1 c3 d3 (by rw [four1_11, four1_11, four1_11]; omega) hv (k := 0) (by omega) (fu := f + 1)
  refine ⟨s4, ?_, c4, d4, ((m1.tr m2).tr m3).tr m4⟩
  rw [hF, k_24, e1, show (24 - 8 : Int) = 16 by omega, e2, show (16 - 8 : Int) = 8 by omega, e3, show (8 - 8 : Int) = 0 by omega, e4]
  simp only [F_X5_four_3]
  rw [if_pos (by rw [k_0, iI_lt (by omega) (by omega)]; omega)]
theorem m_feed {t : St} {w : WR} {ls : List (List DC)} (hM : M0 t w ls) (hX : Wx w) (hT : TpM t w) {a b c d e : Int} (h1 : i32 a) (h2 : i32 b) (h3 : i32 c) (h4 : i32 d) (h5 : i32 e) : ∃ t1, F_X5_feed t (iI a) (iI b) (iI c) (iI d) (iI e) = some (iI (feedV w), t1) ∧ M0 t1 (feedW w a b c d e) ls ∧ TpM t1 (feedW w a b c d e) ∧ Fm StpM t t1 := by
  have ht := hX.1
  unfold F_X5_feed
  rw [nam_v]
  have hF0 := hM.thrown.2
  have hT0 := hT.go hF0 fun _ => rfl
  have hM0 := hM.thrown.1
  generalize setI t 0 0 (0 : Int32) = t0 at hM0 hT0 hF0 ⊢
  unfold feedV feedW
  rw [hM0.1.taped, k_20, k_400, iI_add, k_m1]
  by_cases h : w 0 11 + 20 ≤ 400
  · obtain ⟨s1, e1, c1, d1, m1⟩ := e_X5_four hM0 hT0 (by omega) h1
    obtain ⟨s2, e2, c2, d2, m2⟩ := e_X5_four c1 d1 (by rw [fourW_11]; omega) h2
    obtain ⟨s3, e3, c3, d3, m3⟩ := e_X5_four c2 d2 (by rw [fourW_11, fourW_11]; omega) h3
    obtain ⟨s4, e4, c4, d4, m4⟩ := e_X5_four c3 d3 (by rw [fourW_11, fourW_11, fourW_11]; omega) h4
    obtain ⟨s5, e5, c5, d5, m5⟩ := e_X5_four c4 d4 (by rw [fourW_11, fourW_11, fourW_11, fourW_11]; omega) h5
    have q := c5.1.taped
    rw [fourW_11, fourW_11, fourW_11, fourW_11, fourW_11, show w 0 11 + 4 + 4 + 4 + 4 + 4 = w 0 11 + 20 by omega] at q
    rw [if_pos (by rw [iI_le (by omega) (by omega)]; exact h), if_pos h, if_pos h, e1, bnd_s, e2, bnd_s, e3, bnd_s, e4, bnd_s, e5, bnd_s, q]
    exact ⟨s5, rfl, c5, d5, hF0.stpm.tr ((((m1.tr m2).tr m3).tr m4).tr m5)⟩
  · rw [if_neg (by rw [iI_le (by omega) (by omega)]; exact h), if_neg h, if_neg h]
    exact ⟨t0, rfl, hM0, hT0, hF0.stpm⟩
