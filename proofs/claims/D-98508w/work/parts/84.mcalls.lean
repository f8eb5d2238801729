set_option maxRecDepth 100000
/-! ===== the model's plain calls ===== -/
def Reg (a j : Nat) : Prop := inM a j ∨ Scr a j
theorem Sq_reg {a k : Nat} (h : Sq a k) : Reg a k := Or.inr (Sq_scr h)
theorem M0.set {t : St} {w : WR} {ls : List (List DC)} (h : M0 t w ls) {r a j : Nat} {k v : Int} (hr : relM r k) (hk : 0 ≤ k) (ha : a = mA r) (hj : j = mK r k) : M0 (setI t a j (iI v)) (wup w r k v) ls := by
  subst ha
  subst hj
  obtain ⟨h1, h2, h3, h4⟩ := h
  have hin := relM_in hr hk
  have g : ∀ a j, ¬ inM a j → si (setI t (mA r) (mK r k) (iI v)) a j = si t a j := fun a j hn => by
    rw [si_set]
    split
    · rename_i e
      split
      · rename_i e2
        exact absurd (by rw [e, e2]; exact hin) hn
      · rfl
    · rfl
  exact ⟨h1.set hr hk, by rw [g _ _ (by unfold inM; omega)]; exact h2, by rw [g _ _ (by unfold inM; omega)]; exact h3, fun i law e => (h4 i law e).go fun j _ _ => g _ _ (by unfold inM; omega)⟩
theorem Fm.reg {t : St} {r a j : Nat} {k : Int} {v : Int32} (hr : relM r k) (hk : 0 ≤ k) (ha : a = mA r) (hj : j = mK r k) : Fm Reg t (setI t a j v) := by
  subst ha
  subst hj
  exact Fm.set (Or.inl (relM_in hr hk))
def OpM (t : St) (ls : List (List DC)) {α : Type} (x : Option (α × St)) (r : α) (w' : WR) : Prop := ∃ t', x = some (r, t') ∧ M0 t' w' ls ∧ Fm Reg t t'
theorem OpM.ret {t : St} {ls : List (List DC)} {α : Type} {r : α} {w : WR} (h : M0 t w ls) : OpM t ls (some (r, t)) r w := ⟨t, rfl, h, Fm.rf⟩
theorem OpM.after {t t1 : St} {ls : List (List DC)} {α : Type} {x : Option (α × St)} {r : α} {w' : WR} (h : Fm Reg t t1) (k : OpM t1 ls x r w') : OpM t ls x r w' := by
  obtain ⟨t2, e, hM, hF⟩ := k
  exact ⟨t2, e, hM, h.tr hF⟩
theorem OpM.bn1 {t : St} {ls : List (List DC)} {α : Type} {x : Option (α × St)} {r : α} {w' : WR} (h : OpM t ls x r w') : OpM t ls (bnd x fun r s => some (r, s)) r w' := by
  obtain ⟨t2, rfl, hM, hF⟩ := h
  exact ⟨t2, rfl, hM, hF⟩
noncomputable def tellW (w : WR) (v : Int) : WR := if v < 0 then refW w v else wup w 0 0 0
theorem OpM.tell {t : St} {w : WR} {ls : List (List DC)} (h : M0 t w ls) {v : Int} (hv : -6 ≤ v ∧ v ≤ 2147483647) : OpM t ls (F_X5_tell t (iI v)) (iI v) (tellW w v) := by
  unfold F_X5_tell F_X5_tell_10 tellW
  simp (disch := omega) only [k_0, iI_le, nam_v]
  by_cases h0 : 0 ≤ v
  · rw [if_pos h0, if_pos h0, if_neg (by omega)]
    exact ⟨_, rfl, h.set (r := 0) (k := 0) (by show _ ∨ _; omega) (by omega) rfl rfl, Fm.reg (r := 0) (k := 0) (by show _ ∨ _; omega) (by omega) rfl rfl⟩
  · rw [if_neg h0, if_neg h0, if_pos (by omega)]
    have h1 := h.set (r := 0) (k := 0) (v := v) (a := 0) (j := 1) (by show _ ∨ _; omega) (by omega) rfl rfl
    have hx : si (setI t 0 1 (iI v)) 1 (-v).toNat = iI (w 1 (-v)) := by
      rw [si_set, if_neg (by omega)]
      exact h.1 1 (-v) (by omega) (by show _ < _; omega)
    rw [iI_neg, inb_g (by omega), inb_g (by omega), iI_nat (by omega), hx, k_1, iI_add]
    exact ⟨_, rfl, h1.set (r := 1) (k := -v) (by show _ < _; omega) (by omega) rfl rfl, (Fm.reg (r := 0) (k := 0) (by show _ ∨ _; omega) (by omega) rfl rfl).tr (Fm.reg (r := 1) (k := -v) (by show _ < _; omega) (by omega) rfl rfl)⟩
theorem M0.thrown {t : St} {w : WR} {ls : List (List DC)} (h : M0 t w ls) : M0 (setI t 0 0 (0 : Int32)) w ls ∧ Fm Reg t (setI t 0 0 (0 : Int32)) := by
  have hF : Fm Scr t (setI t 0 0 (0 : Int32)) := Fm.set (by unfold Scr; omega)
  exact ⟨h.scr hF, hF.le fun _ _ z => Or.inr z⟩
theorem e_X5_isCell (t : St) {v : Int} (h : i32 v) : F_X5_isCell t (iI v) = some (iI (bZ (0 ≤ v ∧ v ≤ 35)), t) := by
  unfold i32 at h
  unfold F_X5_isCell
  rw [iI_l (by omega), K_0, K_35, e_X5_in _ (by omega) (by omega) (by omega), bnd_s, fits_b]
theorem e_X5_isCatcher {t : St} {w : WR} (h : RMi t w) (hm : 0 ≤ w 2 8 ∧ w 2 8 ≤ 6) {c : Int} (hc : i32 c) : F_X5_isCatcher t (iI c) = some (iI (bZ (isC w c)), t) := by
  unfold i32 at hc
  unfold F_X5_isCatcher
  rw [k_0, inb_g (by omega), show (iI 0).toNatClampNeg = 0 from rfl, h.many, iI_l (by omega), iI_l (by omega), K_1, K_0, lI_sub, e_X5_in _ (by omega) (by omega) (by omega), bnd_s, fits_b]
  congr 4
  unfold isC
  exact propext (by omega)
theorem e_X5_isFree_2 {t : St} {w : WR} (h : RMi t w) (hm : 0 ≤ w 2 8 ∧ w 2 8 ≤ 6) (hw : ∀ c, 0 ≤ c → c < 6 → 0 ≤ w 3 c ∧ w 3 c ≤ 35) {z : Int} (hz : i32 z) : ∀ (n : Nat) (c : Int), 0 ≤ c → w 2 8 = n + c → ∀ fu, n < fu → F_X5_isFree_2 fu t (iI z) (iI c) = some (iI (bZ (whoF (w 3) z n c = -1)), t) := by
  intro n
  unfold i32 at hz
  induction n with
  | zero =>
    intro c h0 hc fu hfu
    obtain ⟨g, rfl⟩ : ∃ g, fu = g + 1 := ⟨fu - 1, by omega⟩
    simp only [F_X5_isFree_2]
    rw [k_0, inb_g (by omega), show (iI 0).toNatClampNeg = 0 from rfl, h.many, if_pos (by rw [iI_le (by omega) (by omega)]; omega), bZ_t (show whoF (w 3) z 0 c = -1 from rfl)]
    rfl
  | succ n ih =>
    intro c h0 hc fu hfu
    obtain ⟨g, rfl⟩ : ∃ g, fu = g + 1 := ⟨fu - 1, by omega⟩
    have hwc := hw c (by omega) (by omega)
    simp only [F_X5_isFree_2]
    rw [k_0, inb_g (by omega), show (iI 0).toNatClampNeg = 0 from rfl, h.many, if_neg (by rw [iI_le (by omega) (by omega)]; omega), k_3, of3 h (by omega), bnd_s, whoF]
    by_cases e : w 3 c = z
    · rw [if_pos (by rw [e]), if_pos e, bZ_f (by omega)]
    · rw [if_neg (by rw [iI_eq (by omega) (by omega)]; exact e), if_neg e, k_1, iI_add, ih (c + 1) (by omega) (by omega) g (by omega)]
theorem e_X5_isFree {t : St} {w : WR} {ls : List (List DC)} (h : RMi t w) (hW : Wf w ls) {z : Int} (hz : i32 z) : F_X5_isFree t (iI z) = some (iI (bZ (whoZ (w 3) (w 2 8) z = -1)), t) := by
  have hm := hW.1
  unfold F_X5_isFree
  rw [k_0]
  exact e_X5_isFree_2 h hm (fun c h0 h6 => (hW.cat h0 h6).1) hz (w 2 8).toNat 0 (by omega) (by omega) FU (FU_ge (by omega))
theorem wup_c {w : WR} {r r' : Nat} {k k' v v' : Int} (h : r ≠ r' ∨ k ≠ k') : wup (wup w r k v) r' k' v' = wup (wup w r' k' v') r k v := by
  funext x y
  unfold wup
  by_cases h1 : x = r' ∧ y = k'
  · by_cases h2 : x = r ∧ y = k
    · omega
    · rw [if_pos h1, if_neg h2, if_pos h1]
  · by_cases h2 : x = r ∧ y = k
    · rw [if_neg h1, if_pos h2, if_pos h2]
    · rw [if_neg h1, if_neg h2, if_neg h2, if_neg h1]
noncomputable def cat1 (w : WR) (ls : List (List DC)) (a b c d : Int) : Int := if comesZ w ls a b c d = 0 then w 2 8 else comesZ w ls a b c d
theorem e_X5_catcher1 {t : St} {w : WR} {ls : List (List DC)} (hM : M0 t w ls) (hW : Wf w ls) {cell reach want tall : Int} (h1 : i32 cell) (h2 : i32 reach) (h3 : i32 want) (h4 : i32 tall) : OpM t ls (F_X5_catcher1 t (iI cell) (iI reach) (iI want) (iI tall)) (iI (cat1 w ls cell reach want tall)) (comesV w ls cell reach want tall) := by
  have hm := hW.1
  have h1' := h1
  unfold i32 at h1 h2 h3 h4
  unfold cat1 comesV
  unfold comesZ
  unfold F_X5_catcher1
  rw [e_X5_isCell t h1', bnd_s, k_m1, k_m3, k_m5, k_0, k_1, k_2, k_3, k_4, k_6, K_0, K_3, K_m9, K_9, K_1, iI_l (by omega), iI_l (by omega), iI_l (by omega)]
  by_cases a1 : 0 ≤ cell ∧ cell ≤ 35
  · rw [if_neg (by rw [bZ_i0]; exact fun z => z a1), e_X5_in t (by omega) (by omega) (by omega), bnd_s]
    by_cases a2 : 0 ≤ reach ∧ reach ≤ 3
    · rw [if_neg (by rw [bZ_i0]; exact fun z => z a2), e_X5_in t (by omega) (by omega) (by omega), bnd_s]
      by_cases a3 : -9 ≤ want ∧ want ≤ 9
      · rw [if_neg (by rw [bZ_i0]; exact fun z => z a3), e_X5_in t (by omega) (by omega) (by omega), bnd_s]
        by_cases a4 : 1 ≤ tall ∧ tall ≤ 9
        · rw [if_neg (by rw [bZ_i0]; exact fun z => z a4), inb_g (by omega), nam_v, e_X5_isFree hM.1 hW h1', bnd_s]
          have hz : (¬ ((0 ≤ cell ∧ cell ≤ 35) ∧ (0 ≤ reach ∧ reach ≤ 3) ∧ (-9 ≤ want ∧ want ≤ 9) ∧ (1 ≤ tall ∧ tall ≤ 9))) ↔ False := ⟨fun z => z ⟨a1, a2, a3, a4⟩, False.elim⟩
          simp only [hz, if_false]
          by_cases a5 : whoZ (w 3) (w 2 8) cell = -1
          · rw [if_neg (by rw [bZ_i0]; exact fun z => z a5)]
            obtain ⟨t1, e1, hF1⟩ := e_X5_isBarredBy hM hW (c := w 2 8) (want := want) (tall := tall) (cell := cell) (by omega) (by omega) (by omega) (by omega)
            have hM1 := hM.sq hF1
            rw [show (iI 0).toNatClampNeg = 0 from rfl, hM.1.many, e1, bnd_s]
            by_cases a6 : barP w ls (w 2 8) want tall cell
            · have hq : (whoZ (w 3) (w 2 8) cell ≠ -1 ∨ barP w ls (w 2 8) want tall cell) := Or.inr a6
              rw [if_neg (by rw [bZ_i0]; exact fun z => z a6)]
              simp only [hq, if_true]
              rw [if_neg (by omega), if_neg (by omega)]
              exact ⟨t1, rfl, hM1, hF1.le fun _ _ => Sq_reg⟩
            · have hq : ¬ (whoZ (w 3) (w 2 8) cell ≠ -1 ∨ barP w ls (w 2 8) want tall cell) := fun z => z.elim (fun y => y a5) a6
              rw [if_pos (by rw [bZ_i0]; exact a6)]
              simp only [hq, if_false]
              by_cases a7 : w 2 8 = 6
              · rw [if_pos (by rw [a7]), if_pos a7, if_neg (by omega), if_neg (by omega)]
                exact ⟨t1, rfl, hM1, hF1.le fun _ _ => Sq_reg⟩
              · rw [if_neg (by rw [iI_eq (by omega) (by omega)]; exact a7), if_neg a7, if_pos rfl, if_pos rfl]
                have hM2 := hM1.set (r := 4) (k := w 2 8) (v := reach) (a := 2) (j := (13 + 5 * w 2 8).toNat) (by show _ < _; omega) (by omega) rfl rfl
                have hM3 := hM2.set (r := 5) (k := w 2 8) (v := want) (a := 2) (j := (13 + 5 * w 2 8 + 1).toNat) (by show _ < _; omega) (by omega) rfl (show _ = (14 + 5 * w 2 8).toNat by omega)
                have hM4 := hM3.set (r := 6) (k := w 2 8) (v := tall) (a := 2) (j := (13 + 5 * w 2 8 + 2).toNat) (by show _ < _; omega) (by omega) rfl (show _ = (15 + 5 * w 2 8).toNat by omega)
                have hM5 := hM4.set (r := 3) (k := w 2 8) (v := cell) (a := 2) (j := (13 + 5 * w 2 8 + 3).toNat) (by show _ < _; omega) (by omega) rfl (show _ = (16 + 5 * w 2 8).toNat by omega)
                have hM6 := hM5.set (r := 7) (k := w 2 8) (v := -1) (a := 2) (j := (13 + 5 * w 2 8 + 4).toNat) (by show _ < _; omega) (by omega) rfl (show _ = (17 + 5 * w 2 8).toNat by omega)
                have hM7 := hM6.set (r := 2) (k := 8) (v := w 2 8 + 1) (a := 2) (j := 0) (by show _ ∧ _; omega) (by omega) rfl rfl
                have hm6 := hM6.1.many
                rw [wup_n (by decide), wup_n (by decide), wup_n (by decide), wup_n (by decide), wup_n (by decide)] at hm6
                simp only [k_13, k_5, iI_mul, iI_add, nam_v]
                rw [inb_g (by omega), inb_g (by omega), inb_g (by omega), inb_g (by omega), inb_g (by omega), inb_g (by omega), inb_g (by omega), iI_nat (by omega), iI_nat (by omega), iI_nat (by omega), iI_nat (by omega), iI_nat (by omega), hm6, iI_add]
                refine ⟨_, rfl, ?_, ?_⟩
                · have hw : comesW w cell reach want tall = wup (wup (wup (wup (wup (wup w 4 (w 2 8) reach) 5 (w 2 8) want) 6 (w 2 8) tall) 3 (w 2 8) cell) 7 (w 2 8) (-1)) 2 8 (w 2 8 + 1) := by
                    unfold comesW
                    rw [wup_c (r := 3) (r' := 4) (Or.inl (by decide)), wup_c (r := 3) (r' := 5) (Or.inl (by decide)), wup_c (r := 3) (r' := 6) (Or.inl (by decide))]
                  rw [hw]
                  exact hM7
                · have fr : ∀ (t : St) (j : Nat) (v : Int32), inM 2 j → Fm Reg t (setI t 2 j v) := fun t j v h => Fm.set (Or.inl h)
                  exact (((((((hF1.le fun _ _ => Sq_reg).tr (fr _ _ _ (by unfold inM; omega))).tr (fr _ _ _ (by unfold inM; omega))).tr (fr _ _ _ (by unfold inM; omega))).tr (fr _ _ _ (by unfold inM; omega))).tr (fr _ _ _ (by unfold inM; omega))).tr (fr _ _ _ (by unfold inM; omega)))
          · have hq : (whoZ (w 3) (w 2 8) cell ≠ -1 ∨ barP w ls (w 2 8) want tall cell) := Or.inl a5
            rw [if_pos (by rw [bZ_i0]; exact a5)]
            simp only [hq, if_true]
            rw [if_neg (by omega), if_neg (by omega)]
            exact OpM.ret hM
        · rw [if_pos (by rw [bZ_i0]; exact a4), if_pos (fun z => a4 z.2.2.2), if_neg (by omega), if_neg (by omega)]
          exact OpM.ret hM
      · rw [if_pos (by rw [bZ_i0]; exact a3), if_pos (fun z => a3 z.2.2.1), if_neg (by omega), if_neg (by omega)]
        exact OpM.ret hM
    · rw [if_pos (by rw [bZ_i0]; exact a2), if_pos (fun z => a2 z.2.1), if_neg (by omega), if_neg (by omega)]
      exact OpM.ret hM
  · rw [if_pos (by rw [bZ_i0]; exact a1), if_pos (fun z => a1 z.1), if_neg (by omega), if_neg (by omega)]
    exact OpM.ret hM
theorem wup_id {w : WR} {r : Nat} {k : Int} : wup w r k (w r k) = w := by
  funext x y
  unfold wup
  split
  · rename_i h
    rw [h.1, h.2]
  · rfl
noncomputable def setlW (w : WR) (v : Int) : WR := if v < 0 then refW w v else wup (wup w 0 15 0) 0 0 0
theorem RMi.undo {t : St} {w : WR} (h : RMi t w) : si t 0 8 = iI (w 0 15) := h 0 15 (by omega) (by show _ ∨ _; omega)
theorem RMi.taped {t : St} {w : WR} (h : RMi t w) : si t 0 14 = iI (w 0 11) := h 0 11 (by omega) (by show _ ∨ _; omega)
theorem RMi.films {t : St} {w : WR} (h : RMi t w) : si t 2 1 = iI (w 2 9) := h 2 9 (by omega) (by show _ ∧ _; omega)
theorem OpM.settled {t : St} {w : WR} {ls : List (List DC)} (h : M0 t w ls) {v : Int} (hv : -6 ≤ v ∧ v ≤ 2147483647) : OpM t ls (F_X5_settled t (iI v)) (iI v) (setlW w v) := by
  unfold F_X5_settled F_X5_settled_13 setlW
  simp (disch := omega) only [k_0, iI_le, nam_v]
  by_cases h0 : 0 ≤ v
  · rw [if_pos h0, if_neg (by omega)]
    have := (OpM.tell (h.set (r := 0) (k := 15) (v := 0) (a := 0) (j := 8) (by show _ ∨ _; omega) (by omega) rfl rfl) hv).bn1
    unfold tellW at this
    rw [if_neg (by omega)] at this
    exact this.after (Fm.reg (r := 0) (k := 15) (by show _ ∨ _; omega) (by omega) rfl rfl)
  · rw [if_neg h0, if_pos (by omega), h.1.undo]
    have := (OpM.tell (h.set (r := 0) (k := 15) (v := w 0 15) (a := 0) (j := 8) (by show _ ∨ _; omega) (by omega) rfl rfl) hv).bn1
    unfold tellW at this
    rw [if_pos (by omega), wup_id] at this
    exact this.after (Fm.reg (r := 0) (k := 15) (by show _ ∨ _; omega) (by omega) rfl rfl)
theorem OpM.bnd2 {t : St} {ls ls' : List (List DC)} {α β : Type} {x : Option (α × St)} {r : α} {w' w'' : WR} {f : α → St → Option (β × St)} {q : β} (h : OpM t ls x r w') (k : ∀ t1, M0 t1 w' ls → Fm Reg t t1 → OpM t1 ls' (f r t1) q w'') : OpM t ls' (bnd x f) q w'' := by
  obtain ⟨t2, rfl, hM, hF⟩ := h
  exact (k t2 hM hF).after hF
theorem Mthr {t : St} {w : WR} {ls ls' : List (List DC)} {α : Type} {f : St → Option (α × St)} {r : α} {w' : WR} (h : M0 t w ls) (k : ∀ t1, M0 t1 w ls → OpM t1 ls' (f t1) r w') : OpM t ls' (nam (setI t 0 0 (0 : Int32)) f) r w' := by
  rw [nam_v]
  exact (k _ h.thrown.1).after h.thrown.2
theorem cat1_r {w : WR} {ls : List (List DC)} (hW : Wf w ls) (a b c d : Int) : -6 ≤ cat1 w ls a b c d ∧ cat1 w ls a b c d ≤ 6 := by
  have hm := hW.1
  have := comesZ_r (w := w) (ls := ls) (a := a) (b := b) (c := c) (d := d)
  unfold cat1
  split <;> omega
theorem m_catcher {t : St} {w : WR} {ls : List (List DC)} (hM : M0 t w ls) (hW : Wf w ls) {a b c d : Int} (h1 : i32 a) (h2 : i32 b) (h3 : i32 c) (h4 : i32 d) : OpM t ls (F_X5_catcher t (iI a) (iI b) (iI c) (iI d)) (iI (catV w ls a b c d)) (catW w ls a b c d) := by
  unfold F_X5_catcher
  refine Mthr hM fun t1 hM1 => ?_
  have hr := cat1_r hW a b c d
  have hm := hW.1
  have hz := comesZ_r (w := w) (ls := ls) (a := a) (b := b) (c := c) (d := d)
  refine OpM.bnd2 (e_X5_catcher1 hM1 hW h1 h2 h3 h4) fun t2 hM2 _ => ?_
  have := (OpM.settled hM2 (v := cat1 w ls a b c d) (by omega)).bn1
  unfold cat1 setlW comesV at this
  unfold catV catW cat1
  by_cases h : comesZ w ls a b c d = 0
  · simp only [h, if_true] at this ⊢
    rw [if_neg (by omega)] at this
    exact this
  · simp only [h, if_false] at this ⊢
    rw [if_pos (by omega)] at this
    exact this
theorem OpM.set1 {t : St} {w : WR} {ls : List (List DC)} (h : M0 t w ls) {r : Nat} {k v a : Int} (hr : relM r k) (hk : 0 ≤ k) (ha : 2 = mA r) (hj : a = (mK r k : Nat)) (hb : a < 5460) : OpM t ls (F_X5_set1 t (iI a) (iI v)) (iI 0) (wup (wup w r k v) 0 0 0) := by
  unfold F_X5_set1
  rw [inb_g (by omega), nam_v, k_0, iI_nat (by omega)]
  have h1 := h.set (r := r) (k := k) (v := v) (a := 2) (j := a.toNat) hr hk ha (by omega)
  have := (OpM.tell h1 (v := 0) (by omega)).bn1
  unfold tellW at this
  rw [if_neg (by omega)] at this
  exact this.after (Fm.reg hr hk ha (by omega))
theorem OpM.tell0 {t : St} {w : WR} {ls : List (List DC)} (h : M0 t w ls) {v : Int} (hv : 0 ≤ v ∧ v ≤ 2147483647) : OpM t ls (bnd (F_X5_tell t (iI v)) fun r s => some (r, s)) (iI v) (wup w 0 0 0) := by
  have := (OpM.tell h (v := v) (by omega)).bn1
  unfold tellW at this
  rw [if_neg (by omega)] at this
  exact this
theorem OpM.tellN {t : St} {w : WR} {ls : List (List DC)} (h : M0 t w ls) {v : Int} (hv : -6 ≤ v ∧ v < 0) : OpM t ls (bnd (F_X5_tell t (iI v)) fun r s => some (r, s)) (iI v) (refW w v) := by
  have := (OpM.tell h (v := v) (by omega)).bn1
  unfold tellW at this
  rw [if_pos (by omega)] at this
  exact this
theorem m_put_62 {t : St} {w : WR} {ls : List (List DC)} (hM : M0 t w ls) (hW : Wf w ls) {c what v : Int} (h1 : i32 c) (h3 : i32 v) {p : Prop} (hp : p ↔ isPutP what v) : OpM t ls (F_X5_put_62 t (iI c) (iI what) (iI v) (iI (bZ p))) (iI (putV w c what v)) (putW w c what v) := by
  have hm := hW.1
  unfold F_X5_put_62 putV putW
  rw [k_0]
  by_cases a1 : isPutP what v
  · rw [if_neg (by rw [bZ_i0]; exact fun z => z (hp.mpr a1)), if_pos a1, if_pos a1, e_X5_isCatcher hM.1 hm h1, bnd_s]
    by_cases a2 : isC w c
    · have a3 : 0 ≤ c ∧ c < w 2 8 := a2
      rw [if_neg (by rw [bZ_i0]; exact fun z => z a2), if_pos a2, if_pos a2, k_13, k_5, iI_mul, iI_add, iI_add]
      have ap := a1
      unfold isPutP at ap
      refine (OpM.set1 hM (r := 4 + what.toNat) (k := c) (v := v) ?_ (by omega) ?_ ?_ (by omega)).bn1
      · rcases ap with ⟨rfl, -⟩ | ⟨rfl, -⟩ | ⟨rfl, -⟩ <;> (show c < 6; omega)
      · rcases ap with ⟨rfl, -⟩ | ⟨rfl, -⟩ | ⟨rfl, -⟩ <;> rfl
      · rcases ap with ⟨rfl, -⟩ | ⟨rfl, -⟩ | ⟨rfl, -⟩
        · show _ = (((13 + 5 * c).toNat : Nat) : Int); omega
        · show _ = (((14 + 5 * c).toNat : Nat) : Int); omega
        · show _ = (((15 + 5 * c).toNat : Nat) : Int); omega
    · rw [if_pos (by rw [bZ_i0]; exact a2), if_neg a2, if_neg a2, k_m2]
      exact OpM.tellN hM (by omega)
  · rw [if_pos (by rw [bZ_i0]; exact fun z => a1 (hp.mp z)), if_neg a1, if_neg a1, k_m1]
    exact OpM.tellN hM (by omega)
theorem m_put {t : St} {w : WR} {ls : List (List DC)} (hM : M0 t w ls) (hW : Wf w ls) {c what v : Int} (h1 : i32 c) (h2 : i32 what) (h3 : i32 v) : OpM t ls (F_X5_put t (iI c) (iI what) (iI v)) (iI (putV w c what v)) (putW w c what v) := by
  unfold F_X5_put
  refine Mthr hM fun t1 hM1 => ?_
  have h2' := h2
  have h3' := h3
  unfold i32 at h2' h3'
  have n0 : ∀ p : Prop, (p ↔ isPutP what v) → ¬ p → OpM t1 ls (F_X5_put_61 t1 (iI c) (iI what) (iI v)) (iI (putV w c what v)) (putW w c what v) := fun p hp hn => by
    have := m_put_62 hM1 hW h1 h3 hp
    rw [bZ_f hn] at this
    exact this
  rw [k_1, k_2, k_0, K_0, K_3, K_m9, K_9, K_1, iI_l (by omega), e_X5_in t1 (by omega) (by omega) (by omega), e_X5_in t1 (by omega) (by omega) (by omega), e_X5_in t1 (by omega) (by omega) (by omega), bnd_s, bnd_s, bnd_s]
  simp (disch := omega) only [iI_eq]
  by_cases b0 : what = 0
  · rw [if_pos b0]
    exact m_put_62 hM1 hW h1 h3 (by unfold isPutP; omega)
  · rw [if_neg b0]
    by_cases b1 : what = 1
    · rw [if_pos b1]
      exact m_put_62 hM1 hW h1 h3 (by unfold isPutP; omega)
    · rw [if_neg b1]
      by_cases b2 : what = 2
      · rw [if_pos b2]
        by_cases b3 : 1 ≤ v ∧ v ≤ 9
        · rw [if_neg (by rw [bZ_i0]; exact fun z => z b3)]
          have := m_put_62 hM1 hW h1 h3 (p := 1 ≤ v ∧ v ≤ 9) (what := what) (by unfold isPutP; omega)
          rw [bZ_t b3] at this
          exact this
        · rw [if_pos (by rw [bZ_i0]; exact b3)]
          exact n0 (1 ≤ v ∧ v ≤ 9) (by unfold isPutP; omega) b3
      · rw [if_neg b2]
        exact n0 False ⟨fun z => z.elim, fun z => by unfold isPutP at z; omega⟩ (fun z => z)
theorem m_of {t : St} {w : WR} {ls : List (List DC)} (hM : M0 t w ls) (hW : Wf w ls) {c what : Int} (h1 : i32 c) (h2 : i32 what) : OpM t ls (F_X5_of t (iI c) (iI what)) (iI (ofV w c what)) w := by
  unfold F_X5_of
  refine Mthr hM fun t1 hM1 => ?_
  have hm := hW.1
  have h2' := h2
  unfold i32 at h2'
  unfold ofV
  rw [e_X5_isCatcher hM1.1 hm h1, bnd_s, k_m1000, k_0, K_0, K_4, iI_l (by omega)]
  by_cases a2 : isC w c
  · have a3 : 0 ≤ c ∧ c < w 2 8 := a2
    rw [if_neg (by rw [bZ_i0]; exact fun z => z a2), e_X5_in t1 (by omega) (by omega) (by omega), bnd_s]
    by_cases a4 : 0 ≤ what ∧ what ≤ 4
    · rw [if_neg (by rw [bZ_i0]; exact fun z => z a4), if_pos ⟨a2, a4⟩]
      have h5 : what = 0 ∨ what = 1 ∨ what = 2 ∨ what = 3 ∨ what = 4 := by omega
      rcases h5 with rfl | rfl | rfl | rfl | rfl
      · rw [of0 hM1.1 (by omega), bnd_s]; exact OpM.ret hM1
      · rw [of1 hM1.1 (by omega), bnd_s]; exact OpM.ret hM1
      · rw [of2 hM1.1 (by omega), bnd_s]; exact OpM.ret hM1
      · rw [of3 hM1.1 (by omega), bnd_s]; exact OpM.ret hM1
      · rw [of4 hM1.1 (by omega), bnd_s]; exact OpM.ret hM1
    · rw [if_pos (by rw [bZ_i0]; exact a4), if_neg (fun z => a4 z.2)]
      exact OpM.ret hM1
  · rw [if_pos (by rw [bZ_i0]; exact a2), if_neg (fun z => a2 z.1)]
    exact OpM.ret hM1
theorem e_X5_isTerm (t : St) {a v : Int} (h : i32 a) (h1 : i32 v) : F_X5_isTerm t (iI a) (iI v) = some (iI (bZ (isTermP a v)), t) := by
  unfold i32 at h h1
  unfold F_X5_isTerm isTermP
  rw [iI_l (by omega)]
  simp only [k_0, k_1, k_2, k_3, k_4, k_5, k_6, k_7, k_8, K_0, K_1, K_m1, K_2, K_m2, K_3, K_5, K_9, K_35]
  simp (disch := omega) only [lI_neg, iI_eq, e_X5_in, bnd_s, fits_b]
  repeat (split; · (congr 4; exact propext (by omega)))
  rw [bZ_f (by omega)]
theorem m_terms {t : St} {w : WR} {ls : List (List DC)} (hM : M0 t w ls) {what v : Int} (h1 : i32 what) (h2 : i32 v) : OpM t ls (F_X5_terms t (iI what) (iI v)) (iI (termV what v)) (termW w what v) := by
  unfold F_X5_terms
  refine Mthr hM fun t1 hM1 => ?_
  unfold termV termW
  rw [e_X5_isTerm t1 h1 h2, bnd_s, k_0]
  by_cases a1 : isTermP what v
  · have a2 : 0 ≤ what ∧ what ≤ 8 := by unfold isTermP at a1; omega
    rw [if_neg (by rw [bZ_i0]; exact fun z => z a1), if_pos a1, if_pos a1, k_4, iI_add]
    exact (OpM.set1 hM1 (r := 8) (k := what) (v := v) (by show _ < _; omega) (by omega) rfl (by show _ = (((4 + what).toNat : Nat) : Int); omega) (by omega)).bn1
  · rw [if_pos (by rw [bZ_i0]; exact a1), if_neg a1, if_neg a1, k_m1]
    exact OpM.tellN hM1 (by omega)
theorem m_film {t : St} {w : WR} {ls : List (List DC)} (hM : M0 t w ls) (hW : Wf w ls) {c : Int} (h1 : i32 c) : OpM t ls (F_X5_film t (iI c)) (iI (filmV w c)) (filmW w c) := by
  unfold F_X5_film
  refine Mthr hM fun t1 hM1 => ?_
  have hm := hW.2.1
  unfold filmV filmW
  rw [e_X5_isCell t1 h1, bnd_s, k_m1, k_m5, k_0, k_8, k_1, k_43]
  by_cases a1 : 0 ≤ c ∧ c ≤ 35
  · rw [if_neg (by rw [bZ_i0]; exact fun z => z a1), if_pos a1, if_pos a1, inb_g (by omega), nam_v, show (iI 1).toNatClampNeg = 1 from rfl, hM1.1.films]
    by_cases a2 : w 2 9 = 8
    · rw [if_pos (by rw [a2]), if_pos a2, if_pos a2]
      exact OpM.tellN hM1 (by omega)
    · have hM2 := hM1.set (r := 9) (k := w 2 9) (v := c) (a := 2) (j := (43 + w 2 9).toNat) (by show _ < _; omega) (by omega) rfl rfl
      have hM3 := hM2.set (r := 2) (k := 9) (v := w 2 9 + 1) (a := 2) (j := 1) (by show _ ∧ _; omega) (by omega) rfl rfl
      have e1 := hM2.1.films
      rw [wup_n (by decide)] at e1
      rw [if_neg (by rw [iI_eq (by omega) (by omega)]; exact a2), if_neg a2, if_neg a2, iI_add, inb_g (by omega), nam_v, iI_nat (by omega), inb_g (by omega), inb_g (by omega), nam_v, e1, iI_add]
      exact (OpM.tell0 hM3 (by omega)).after ((Fm.reg (r := 9) (k := w 2 9) (by show _ < _; omega) (by omega) rfl rfl).tr (Fm.reg (r := 2) (k := 9) (by show _ ∧ _; omega) (by omega) rfl rfl))
  · rw [if_pos (by rw [bZ_i0]; exact a1), if_neg a1, if_neg a1]
    exact OpM.tellN hM1 (by omega)
theorem m_burn {t : St} {w : WR} {ls : List (List DC)} (hM : M0 t w ls) : OpM t ls (F_X5_burn t) (iI (w 2 9)) (wup w 2 9 0) := by
  unfold F_X5_burn
  refine Mthr hM fun t1 hM1 => ?_
  rw [k_1, inb_g (by omega), nam_v, inb_g (by omega), nam_v, show (iI 1).toNatClampNeg = 1 from rfl, hM1.1.films]
  exact (OpM.ret (hM1.set (r := 2) (k := 9) (v := 0) (a := 2) (j := 1) (by show _ ∧ _; omega) (by omega) rfl rfl)).after (Fm.reg (r := 2) (k := 9) (by show _ ∧ _; omega) (by omega) rfl rfl)
theorem m_force {t : St} {w : WR} {ls : List (List DC)} (hM : M0 t w ls) (hW : Wf w ls) {l : Int} (h1 : i32 l) : OpM t ls (F_X5_force t (iI l)) (iI (forceV ls l)) (forceW w ls l) := by
  unfold F_X5_force
  refine Mthr hM fun t1 hM1 => ?_
  have hf := hW.frc
  unfold i32 at h1
  have key : OpM t1 ls (F_X5_force_28 t1 (iI l)) (iI 0) (wup (wup w 2 10 l) 0 0 0) := by
    unfold F_X5_force_28
    rw [k_3]
    exact (OpM.set1 hM1 (r := 2) (k := 10) (v := l) (a := 3) (by show _ ∧ _; omega) (by omega) rfl rfl (by omega)).bn1
  unfold forceV forceW
  rw [k_m1, k_m2, k_0, k_2, K_0, K_1, inb_g (by omega), show (iI 2).toNatClampNeg = 2 from rfl, hM1.2.1, iI_l (by omega), iI_l (by omega), lI_sub, e_X5_in t1 (by omega) (by omega) (by omega), bnd_s]
  by_cases a1 : l = -1
  · rw [if_pos (by rw [a1]), if_pos (Or.inl a1), if_pos (Or.inl a1)]
    exact key
  · rw [if_neg (by rw [iI_eq (by omega) (by omega)]; exact a1)]
    by_cases a2 : 0 ≤ l ∧ l < ls.length
    · rw [if_neg (by rw [bZ_i0]; exact fun z => z (by omega)), if_pos (Or.inr a2), if_pos (Or.inr a2)]
      exact key
    · rw [if_pos (by rw [bZ_i0]; omega), if_neg (by omega), if_neg (by omega)]
      exact OpM.tellN hM1 (by omega)
theorem m_status {t : St} {w : WR} {ls : List (List DC)} (hM : M0 t w ls) : OpM t ls (F_X5_status t) (iI (w 0 0)) w := by
  unfold F_X5_status
  refine Mthr hM fun t1 hM1 => ?_
  rw [show si t1 0 1 = iI (w 0 0) from hM1.1 0 0 (by omega) (by show _ ∨ _; omega)]
  exact OpM.ret hM1
theorem m_fault {t : St} {w : WR} {ls : List (List DC)} (hM : M0 t w ls) : OpM t ls (F_X5_fault t) (iI (w 0 12)) w := by
  unfold F_X5_fault
  refine Mthr hM fun t1 hM1 => ?_
  rw [show si t1 0 19 = iI (w 0 12) from hM1.1 0 12 (by omega) (by show _ ∨ _; omega)]
  exact OpM.ret hM1
theorem m_stopped {t : St} {w : WR} {ls : List (List DC)} (hM : M0 t w ls) : OpM t ls (F_X5_stopped t) (iI (w 0 14)) w := by
  unfold F_X5_stopped
  refine Mthr hM fun t1 hM1 => ?_
  rw [show si t1 0 61 = iI (w 0 14) from hM1.1 0 14 (by omega) (by show _ ∨ _; omega)]
  exact OpM.ret hM1
theorem m_rice {t : St} {w : WR} {ls : List (List DC)} (hM : M0 t w ls) : OpM t ls (F_X5_rice t) (iI (w 0 13)) w := by
  unfold F_X5_rice
  refine Mthr hM fun t1 hM1 => ?_
  rw [show si t1 0 12 = iI (w 0 13) from hM1.1 0 13 (by omega) (by show _ ∨ _; omega)]
  exact OpM.ret hM1
theorem m_end {t : St} {w : WR} {ls : List (List DC)} (hM : M0 t w ls) (hX : Wx w) {n : Int} (h1 : i32 n) : OpM t ls (F_X5_end t (iI n)) (iI (endV w n)) (endW w n) := by
  unfold F_X5_end
  refine Mthr hM fun t1 hM1 => ?_
  have hx := hX.1
  unfold i32 at h1
  unfold endV endW
  rw [hM1.1.taped, k_m1, k_0]
  simp (disch := omega) only [iI_lt, iI_le]
  by_cases a1 : n < 0
  · rw [if_pos a1, if_neg (by omega), if_neg (by omega)]
    exact OpM.ret hM1
  · rw [if_neg a1]
    by_cases a2 : n ≤ w 0 11
    · rw [if_pos a2, if_pos (by omega), if_pos (by omega), nam_v]
      exact (OpM.ret (hM1.set (r := 0) (k := 11) (v := n) (a := 0) (j := 14) (by show _ ∨ _; omega) (by omega) rfl rfl)).after (Fm.reg (r := 0) (k := 11) (by show _ ∨ _; omega) (by omega) rfl rfl)
    · rw [if_neg a2, if_neg (by omega), if_neg (by omega)]
      exact OpM.ret hM1
def DrM (t : St) (w : WR) : Prop := si t 0 66 = iI 1 ∨ (si t 0 66 = iI 0 ∧ w 0 26 = 0)
theorem m_drawn {t : St} {w : WR} {ls : List (List DC)} (hM : M0 t w ls) (hX : Wx w) (hD : DrM t w) {c what : Int} (h1 : i32 c) (h2 : i32 what) : OpM t ls (F_X5_drawn t (iI c) (iI what)) (iI (drawnV w c what)) w := by
  unfold F_X5_drawn
  have hD' : DrM (setI t 0 0 (0 : Int32)) w := by
    unfold DrM at hD ⊢
    rw [si_set, if_pos rfl, if_neg (by omega)]
    exact hD
  rw [nam_v]
  refine OpM.after hM.thrown.2 ?_
  have hM1 := hM.thrown.1
  generalize setI t 0 0 (0 : Int32) = t1 at hM1 hD' ⊢
  have hx := hX.2.2
  have hR := hM1.1
  unfold i32 at h1 h2
  unfold drawnV
  rcases hD' with hd | ⟨hd, h0⟩
  · rw [hd, if_neg (by decide), show si t1 0 65 = iI (w 0 26) from hR 0 26 (by omega) (by show _ ∨ _; omega), k_m1, k_0, k_2, K_0, K_1, iI_l (by omega), iI_l (by omega), iI_l (by omega), lI_sub, e_X5_in t1 (by omega) (by omega) (by omega), bnd_s, e_X5_in t1 (by omega) (by omega) (by omega), bnd_s]
    by_cases a1 : 0 ≤ c ∧ c < w 0 26
    · rw [if_neg (by rw [bZ_i0]; omega)]
      by_cases a2 : what = 0 ∨ what = 1
      · rw [if_neg (by rw [bZ_i0]; omega), if_pos (show (0 ≤ c ∧ c < w 0 26) ∧ (what = 0 ∨ what = 1) from ⟨a1, a2⟩), iI_mul, iI_add, inb_g (by omega), iI_nat (by omega)]
        rcases a2 with rfl | rfl
        · rw [if_pos rfl, show (2 * c + 0).toNat = (2 * c).toNat by omega, show si t1 28 (2 * c).toNat = iI (w 29 c) from hR 29 c (by omega) (by show _ < _; omega)]
          exact OpM.ret hM1
        · rw [if_neg (by decide), show si t1 28 (2 * c + 1).toNat = iI (w 30 c) from hR 30 c (by omega) (by show _ < _; omega)]
          exact OpM.ret hM1
      · rw [if_pos (by rw [bZ_i0]; omega), if_neg (by omega)]
        exact OpM.ret hM1
    · rw [if_pos (by rw [bZ_i0]; omega), if_neg (by omega)]
      exact OpM.ret hM1
  · rw [hd, if_pos (by decide), if_neg (by omega)]
    exact OpM.ret hM1
theorem m_count {t : St} {w : WR} {ls : List (List DC)} (hM : M0 t w ls) {n : Int} (h1 : i32 n) : OpM t ls (F_X5_count t (iI n)) (iI (countV w ls n)) w := by
  unfold F_X5_count
  refine Mthr hM fun t1 hM1 => ?_
  have hR := hM1.1
  unfold i32 at h1
  unfold countV
  rw [k_m1000, k_0, k_1, k_2, k_3, k_4, k_5, k_6, k_7, k_8, k_9, k_10, k_11, K_11, K_19]
  rw [inb_g (by omega), inb_g (by omega), inb_g (by omega), inb_g (by omega), inb_g (by omega), inb_g (by omega), inb_g (by omega), inb_g (by omega), inb_g (by omega), show (iI 0).toNatClampNeg = 0 from rfl, show (iI 1).toNatClampNeg = 1 from rfl, show (iI 2).toNatClampNeg = 2 from rfl, show (iI 3).toNatClampNeg = 3 from rfl, show (iI 5).toNatClampNeg = 5 from rfl, show (iI 6).toNatClampNeg = 6 from rfl, hR.many, hR.films, hM1.2.1, hR.undo, hR.taped, hR.frc, iI_l (by omega), e_X5_in t1 (by omega) (by omega) (by omega), bnd_s, iI_add, iI_sub]
  have r1 : ∀ k : Nat, k < 7 → si t1 1 k = iI (w 1 k) := fun k hk => hR 1 k (by omega) (by show _ < _; omega)
  rw [r1 1 (by omega), r1 2 (by omega), r1 3 (by omega), r1 5 (by omega), r1 6 (by omega)]
  have ne : ∀ z : Int, n ≠ z → 0 ≤ z ∧ z ≤ 100 → ¬ iI n = iI z := fun z h hz => by rw [iI_eq (by omega) (by omega)]; exact h
  by_cases c0 : n = 0
  · rw [if_pos (by rw [c0]), if_pos c0]; exact OpM.ret hM1
  rw [if_neg (ne 0 c0 (by omega)), if_neg c0]
  by_cases c1 : n = 1
  · rw [if_pos (by rw [c1]), if_pos c1]; exact OpM.ret hM1
  rw [if_neg (ne 1 c1 (by omega)), if_neg c1]
  by_cases c2 : n = 2
  · rw [if_pos (by rw [c2]), if_pos c2]; exact OpM.ret hM1
  rw [if_neg (ne 2 c2 (by omega)), if_neg c2]
  by_cases c3 : n = 3
  · rw [if_pos (by rw [c3]), if_pos c3]; exact OpM.ret hM1
  rw [if_neg (ne 3 c3 (by omega)), if_neg c3]
  by_cases c4 : n = 4
  · rw [if_pos (by rw [c4]), if_pos c4]; exact OpM.ret hM1
  rw [if_neg (ne 4 c4 (by omega)), if_neg c4]
  by_cases c5 : n = 5
  · rw [if_pos (by rw [c5]), if_pos (by omega), c5]; exact OpM.ret hM1
  rw [if_neg (ne 5 c5 (by omega))]
  by_cases c6 : n = 6
  · rw [if_pos (by rw [c6]), if_pos (by omega), c6]; exact OpM.ret hM1
  rw [if_neg (ne 6 c6 (by omega))]
  by_cases c7 : n = 7
  · rw [if_pos (by rw [c7]), if_pos (by omega), c7]; exact OpM.ret hM1
  rw [if_neg (ne 7 c7 (by omega)), if_neg (show ¬ (5 ≤ n ∧ n ≤ 7) by omega)]
  by_cases c8 : n = 8
  · rw [if_pos (by rw [c8]), if_pos (by omega), c8]; exact OpM.ret hM1
  rw [if_neg (ne 8 c8 (by omega))]
  by_cases c9 : n = 9
  · rw [if_pos (by rw [c9]), if_pos (by omega), c9]; exact OpM.ret hM1
  rw [if_neg (ne 9 c9 (by omega)), if_neg (show ¬ (8 ≤ n ∧ n ≤ 9) by omega)]
  by_cases c10 : n = 10
  · rw [if_pos (by rw [c10]), if_pos c10]; exact OpM.ret hM1
  rw [if_neg (ne 10 c10 (by omega)), if_neg c10]
  by_cases c11 : 11 ≤ n ∧ n ≤ 19
  · rw [if_neg (by rw [bZ_i0]; exact fun z => z c11), if_pos c11, inb_g (by omega), iI_nat (by omega), show (4 + n - 11).toNat = (4 + (n - 11)).toNat by omega, show si t1 2 (4 + (n - 11)).toNat = iI (w 8 (n - 11)) from hR 8 (n - 11) (by omega) (by show _ < _; omega)]
    exact OpM.ret hM1
  · rw [if_pos (by rw [bZ_i0]; exact c11), if_neg c11]
    exact OpM.ret hM1
