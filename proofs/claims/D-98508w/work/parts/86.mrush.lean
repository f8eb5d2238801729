set_option maxRecDepth 100000
/-! ===== the model: rushes, the row, the tape ===== -/
theorem e_X5_steps {t : St} {w : WR} {ls : List (List DC)} (hM : M0 t w ls) (hW : Wf w ls) {c cell : Int} (hc : 0 ≤ c ∧ c < 6) (hl : 0 ≤ cell ∧ cell ≤ 35) : OpM t ls (F_X5_steps t (iI c) (iI cell)) (iI (bZ (canGoP w ls (w 3) c cell))) (@ite _ (canGoP w ls (w 3) c cell) (Classical.propDecidable _) (wup w 3 c cell) w) := by
  unfold F_X5_steps
  rw [e_X5_isFree hM.1 hW (by unfold i32; omega), bnd_s, k_0]
  by_cases a5 : whoZ (w 3) (w 2 8) cell = -1
  · obtain ⟨t1, e1, hF1⟩ := e_X5_isBarred hM hW (c := c) (cell := cell) (by omega) (by omega)
    have hM1 := hM.sq hF1
    rw [if_neg (by rw [bZ_i0]; exact fun z => z a5), e1, bnd_s]
    by_cases a6 : barC w ls c cell
    · have hn : ¬ canGoP w ls (w 3) c cell := fun z => z.2 a6
      rw [if_neg (by rw [bZ_i0]; exact fun z => z a6), bZ_f hn, if_neg hn]
      exact ⟨t1, rfl, hM1, hF1.le fun _ _ => Sq_reg⟩
    · have hy : canGoP w ls (w 3) c cell := ⟨a5, a6⟩
      rw [if_pos (by rw [bZ_i0]; exact a6), bZ_t hy, if_pos hy, e_X5_setCell t1 (by omega), bnd_s]
      exact ⟨_, rfl, hM1.set (r := 3) (k := c) (v := cell) (a := 2) (by show _ < _; omega) (by omega) rfl rfl, (hF1.le fun _ _ => Sq_reg).tr (Fm.reg (r := 3) (k := c) (by show _ < _; omega) (by omega) rfl rfl)⟩
  · have hn : ¬ canGoP w ls (w 3) c cell := fun z => a5 z.1
    rw [if_pos (by rw [bZ_i0]; exact a5), bZ_f hn, if_neg hn]
    exact OpM.ret hM
/-- one of a rush -/
theorem e_X5_rush1 {k21 : St → Int32 → Int32 → Option (Int32 × St)} {t : St} {w : WR} {ls : List (List DC)} (hM : M0 t w ls) (hW : Wf w ls) {c k : Int} (hc : 0 ≤ c ∧ c < 6) (hb : 0 ≤ w 7 c ∧ w 7 c ≤ 35) : ∃ t1, M0 t1 (stW w ls c) ls ∧ Fm Reg t t1 ∧ (if iI (w 7 c % 6 - w 3 c % 6) = 0 then F_X5_rushNow_105 k21 t (iI k) (iI c) (iI (w 3 c)) (iI (w 7 c / 6 - w 3 c / 6)) else (if iI (w 7 c % 6 - w 3 c % 6) ≤ 0 then F_X5_rushNow_94 k21 t (iI k) (iI c) (iI (w 3 c)) (iI (w 7 c / 6 - w 3 c / 6)) (-1 : Int32) (iI (w 3 c)) (iI c) else F_X5_rushNow_94 k21 t (iI k) (iI c) (iI (w 3 c)) (iI (w 7 c / 6 - w 3 c / 6)) (1 : Int32) (iI (w 3 c)) (iI c))) = k21 t1 (iI (k + (if stepZ w ls c = w 3 c then 0 else 1))) (iI (c + 1)) := by
  have hk := hW.cat hc.1 hc.2
  have hr := stepZ_r (ls := ls) hk.1 hb
  have e145 : ∀ t1, F_X5_rushNow_145 k21 t1 (iI k) (iI c) = k21 t1 (iI k) (iI (c + 1)) := fun t1 => by
    unfold F_X5_rushNow_145 F_X5_rushNow_146
    rw [k_0, k_1, if_pos rfl, iI_add, iI_add, Int.add_zero]
  have e141 : ∀ t1, F_X5_rushNow_141 k21 t1 (iI k) (iI c) = k21 t1 (iI (k + 1)) (iI (c + 1)) := fun t1 => by
    unfold F_X5_rushNow_141 F_X5_rushNow_146
    rw [k_0, k_1, if_neg (by decide), iI_add, iI_add]
  -- up or down
  have on : ¬ (asideZ w c ≠ 0 ∧ canGoP w ls (w 3) c (w 3 c + asideZ w c)) → ∀ t0, M0 t0 w ls → ∃ t1, M0 t1 (stW w ls c) ls ∧ Fm Reg t0 t1 ∧ F_X5_rushNow_105 k21 t0 (iI k) (iI c) (iI (w 3 c)) (iI (w 7 c / 6 - w 3 c / 6)) = k21 t1 (iI (k + (if stepZ w ls c = w 3 c then 0 else 1))) (iI (c + 1)) := by
    intro ha t0 hM0
    unfold F_X5_rushNow_105 F_X5_rushNow_106
    rw [if_pos rfl]
    have hs : stepZ w ls c = @ite _ (onZ w c ≠ 0 ∧ canGoP w ls (w 3) c (w 3 c + 6 * onZ w c)) (Classical.propDecidable _) (w 3 c + 6 * onZ w c) (w 3 c) := by
      unfold stepZ
      rw [if_neg ha]
    by_cases h0 : w 7 c / 6 - w 3 c / 6 = 0
    · have ho : onZ w c = 0 := by unfold onZ sgnZ; omega
      rw [if_neg (fun z => z.1 ho)] at hs
      rw [if_pos (by rw [h0]; rfl), if_pos hs, e145, Int.add_zero]
      unfold stW
      rw [if_pos hs]
      exact ⟨t0, hM0, Fm.rf, rfl⟩
    · rw [if_neg (by rw [k_0, iI_eq (by omega) (by omega)]; exact h0)]
      have go : ∀ d : Int, d = 6 * onZ w c → ∃ t1, M0 t1 (stW w ls c) ls ∧ Fm Reg t0 t1 ∧ F_X5_rushNow_134 k21 t0 (iI k) (iI c) (iI d) (iI (w 3 c)) (iI c) = k21 t1 (iI (k + (if stepZ w ls c = w 3 c then 0 else 1))) (iI (c + 1)) := by
        intro d hd
        have ho : onZ w c ≠ 0 := by unfold onZ sgnZ; omega
        obtain ⟨t1, e1, hM1, hF1⟩ := e_X5_steps hM0 hW (c := c) (cell := w 3 c + 6 * onZ w c) hc (by omega)
        unfold F_X5_rushNow_134
        rw [iI_add, hd, e1, bnd_s, k_0]
        by_cases hg : canGoP w ls (w 3) c (w 3 c + 6 * onZ w c)
        · rw [if_pos ⟨ho, hg⟩] at hs
          have hne : ¬ stepZ w ls c = w 3 c := by omega
          rw [if_neg (by rw [bZ_i0]; exact fun z => z hg), e141, if_neg hne]
          rw [if_pos hg] at hM1
          unfold stW
          rw [if_neg hne, hs]
          exact ⟨t1, hM1, hF1, rfl⟩
        · rw [if_neg (fun z => hg z.2)] at hs
          rw [if_pos (by rw [bZ_i0]; exact hg), e145, if_pos hs, Int.add_zero]
          rw [if_neg hg] at hM1
          unfold stW
          rw [if_pos hs]
          exact ⟨t1, hM1, hF1, rfl⟩
      by_cases h1 : w 7 c / 6 - w 3 c / 6 ≤ 0
      · rw [if_pos (by rw [k_0, iI_le (by omega) (by omega)]; exact h1), k_m6]
        exact go (-6) (by unfold onZ sgnZ; omega)
      · rw [if_neg (by rw [k_0, iI_le (by omega) (by omega)]; exact h1), k_6]
        exact go 6 (by unfold onZ sgnZ; omega)
  by_cases h0 : w 7 c % 6 - w 3 c % 6 = 0
  · rw [if_pos (by rw [h0]; rfl)]
    exact on (fun z => z.1 (by unfold asideZ sgnZ; omega)) t hM
  · rw [if_neg (by rw [k_0, iI_eq (by omega) (by omega)]; exact h0)]
    have go : ∀ d : Int, d = asideZ w c → ∃ t1, M0 t1 (stW w ls c) ls ∧ Fm Reg t t1 ∧ F_X5_rushNow_94 k21 t (iI k) (iI c) (iI (w 3 c)) (iI (w 7 c / 6 - w 3 c / 6)) (iI d) (iI (w 3 c)) (iI c) = k21 t1 (iI (k + (if stepZ w ls c = w 3 c then 0 else 1))) (iI (c + 1)) := by
      intro d hd
      have ha : asideZ w c ≠ 0 := by unfold asideZ sgnZ; omega
      obtain ⟨t1, e1, hM1, hF1⟩ := e_X5_steps hM hW (c := c) (cell := w 3 c + asideZ w c) hc (by omega)
      unfold F_X5_rushNow_94
      rw [iI_add, hd, e1, bnd_s, k_0]
      by_cases hg : canGoP w ls (w 3) c (w 3 c + asideZ w c)
      · have hs : stepZ w ls c = w 3 c + asideZ w c := by
          unfold stepZ
          rw [if_pos ⟨ha, hg⟩]
        have hne : ¬ stepZ w ls c = w 3 c := by omega
        rw [if_neg (by rw [bZ_i0]; exact fun z => z hg), if_neg hne]
        unfold F_X5_rushNow_106
        rw [k_0, k_1, if_neg (by decide), e141]
        rw [if_pos hg] at hM1
        unfold stW
        rw [if_neg hne, hs]
        exact ⟨t1, hM1, hF1, rfl⟩
      · rw [if_pos (by rw [bZ_i0]; exact hg)]
        rw [if_neg hg] at hM1
        obtain ⟨t2, hM2, hF2, e2⟩ := on (fun z => hg z.2) t1 hM1
        exact ⟨t2, hM2, hF1.tr hF2, e2⟩
    by_cases h1 : w 7 c % 6 - w 3 c % 6 ≤ 0
    · rw [if_pos (by rw [k_0, iI_le (by omega) (by omega)]; exact h1), k_m1]
      exact go (-1) (by unfold asideZ sgnZ; omega)
    · rw [if_neg (by rw [k_0, iI_le (by omega) (by omega)]; exact h1), k_1]
      exact go 1 (by unfold asideZ sgnZ; omega)
theorem e_X5_rushNow_21 {ls : List (List DC)} {m : Int} (hm : 0 ≤ m ∧ m ≤ 6) : ∀ (n : Nat) (c : Int) (t : St) (w : WR) (k : Int), M0 t w ls → Wf w ls → w 2 8 = m → 0 ≤ c → m = n + c → (0 ≤ k ∧ k ≤ c) → ∀ fu, n < fu → OpM t ls (F_X5_rushNow_21 fu t (iI k) (iI c)) (iI (rushF ls n c w k).1) (rushF ls n c w k).2 ∧ 0 ≤ (rushF ls n c w k).1 ∧ (rushF ls n c w k).1 ≤ m := by
  intro n
  induction n with
  | zero =>
    intro c t w k hM hW hw h0 hn hk fu hfu
    obtain ⟨g, rfl⟩ : ∃ g, fu = g + 1 := ⟨fu - 1, by omega⟩
    refine ⟨?_, hk.1, by show k ≤ m; omega⟩
    simp only [F_X5_rushNow_21]
    rw [k_0, inb_g (by omega), show (iI 0).toNatClampNeg = 0 from rfl, hM.1.many, hw, if_pos (by rw [iI_le (by omega) (by omega)]; omega)]
    exact OpM.ret hM
  | succ n ih =>
    intro c t w k hM hW hw h0 hn hk fu hfu
    obtain ⟨g, rfl⟩ : ∃ g, fu = g + 1 := ⟨fu - 1, by omega⟩
    have hcat := hW.cat (c := c) h0 (by omega)
    simp only [F_X5_rushNow_21]
    rw [gd_ok (show inb (0 : Int32) 5460 = true by decide), show (Int32.toNatClampNeg 0) = 0 from rfl, hM.1.many, hw, if_neg (by rw [iI_le (by omega) (by omega)]; omega), k_4, of4 hM.1 (by omega), bnd_s, rushF]
    by_cases a1 : w 7 c = -1
    · rw [if_pos (by rw [a1]; rfl), if_pos a1, k_1, iI_add]
      exact ih (c + 1) t w k hM hW hw (by omega) (by omega) (by omega) g (by omega)
    · rw [if_neg (by rw [k_m1, iI_eq (by omega) (by omega)]; exact a1), if_neg a1, k_3, of3 hM.1 (by omega), bnd_s, k_6, iI_remn (by omega) (by omega), iI_remn (by omega) (by omega), iI_divn (by omega) (by omega), iI_divn (by omega) (by omega), iI_sub, iI_sub, nam_v, nam_v]
      obtain ⟨t1, hM1, hF1, e1⟩ := e_X5_rush1 (k21 := F_X5_rushNow_21 g) hM hW (c := c) (k := k) (by omega) (by omega)
      rw [e1]
      have hok := stW_ok hW (ls := ls) (c := c) (by omega) (by omega)
      obtain ⟨q1, q2⟩ := ih (c + 1) t1 _ (k + (if stepZ w ls c = w 3 c then 0 else 1)) hM1 hok.1 (by rw [hok.2 _ _ (by decide)]; exact hw) (by omega) (by omega) (by split <;> omega) g (by omega)
      exact ⟨q1.after hF1, q2⟩
theorem e_X5_rushNow {t : St} {w : WR} {ls : List (List DC)} (hM : M0 t w ls) (hW : Wf w ls) (hX : Wx w) : OpM t ls (F_X5_rushNow t) (iI (rushZ w ls)) (rushW w ls) ∧ (w 2 8 = 0 ∨ (0 ≤ rushZ w ls ∧ rushZ w ls ≤ 6)) := by
  have hm := hW.1
  unfold F_X5_rushNow rushZ rushW
  rw [k_m3, k_0, k_1, inb_g (by omega), show (iI 0).toNatClampNeg = 0 from rfl, hM.1.many]
  by_cases h : w 2 8 = 0
  · rw [if_pos (by rw [h]), if_pos h, if_pos h]
    exact ⟨OpM.ret hM, Or.inl h⟩
  · rw [if_neg (by rw [iI_eq (by omega) (by omega)]; exact h), if_neg h, if_neg h]
    obtain ⟨t1, e1, hM1, hF1⟩ := OpM.remember hM hX (what := 1)
    obtain ⟨q1, q2, q3⟩ := e_X5_rushNow_21 (ls := ls) hm (w 2 8).toNat 0 t1 (keepW w 1) 0 hM1 hW.keep (keepW_o (by decide)) (by omega) (by omega) (by omega) FU (FU_ge (by omega))
    rw [e1, bnd_s]
    exact ⟨q1.after hF1, Or.inr ⟨q2, by omega⟩⟩
theorem m_rush {t : St} {w : WR} {ls : List (List DC)} (hM : M0 t w ls) (hW : Wf w ls) (hX : Wx w) : OpM t ls (F_X5_rush t) (iI (rushZ w ls)) (rushRW w ls) := by
  unfold F_X5_rush
  refine Mthr hM fun t1 hM1 => ?_
  obtain ⟨h1, hr⟩ := e_X5_rushNow hM1 hW hX
  refine OpM.bnd2 h1 fun t2 hM2 _ => ?_
  unfold rushRW
  rcases hr with h | h
  · have e : rushZ w ls = -3 := by unfold rushZ; rw [if_pos h]
    have e2 : rushW w ls = w := by unfold rushW; rw [if_pos h]
    rw [e2] at hM2
    rw [e, if_neg (by omega)]
    exact OpM.tellN hM2 (by omega)
  · rw [if_pos h.1]
    exact OpM.tell0 hM2 (by omega)
