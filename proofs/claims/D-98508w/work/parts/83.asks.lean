set_option maxRecDepth 100000
/-! ===== the model: bars, grips, weddings, slips ===== -/
theorem M0.ok {t : St} {w : WR} {ls : List (List DC)} (h : M0 t w ls) : ∀ l ∈ ls, ∀ c ∈ l, cok c := by
  intro l hl c hc
  obtain ⟨i, hi⟩ := List.mem_iff_getElem?.mp hl
  obtain ⟨C, n, -, -, -, -, h5⟩ := h.2.2.2 i l hi
  obtain ⟨j, hj⟩ := List.mem_iff_getElem?.mp hc
  exact (h5 j c hj).2.2.2.2.2.2
theorem M0.sq {t t' : St} {w : WR} {ls : List (List DC)} (h : M0 t w ls) (hf : Fm Sq t t') : M0 t' w ls := h.scr (hf.le fun _ _ => Sq_scr)
theorem e_X5_within {t : St} {z lo hi : Int} (hz : -4000000000 ≤ z ∧ z ≤ 4000000000) (h1 : 0 ≤ lo ∧ lo ≤ 1000) (h2 : lo ≤ hi ∧ hi ≤ 1000) : F_X5_within t (lI z) (iI lo) (iI hi) = some (iI (nearZ lo hi z), t) := by
  unfold F_X5_within nearZ
  rw [iI_l (by omega), iI_l (by omega)]
  simp (disch := omega) only [lI_le]
  by_cases a : lo ≤ z
  · by_cases b : z ≤ hi
    · rw [if_pos a, if_pos b, if_neg (by omega), if_neg (by omega), lI_i (by omega)]
    · rw [if_pos a, if_neg b, if_neg (by omega), if_pos (by omega)]
  · rw [if_neg a, if_pos (by omega)]
theorem toldZ_r {t : St} {w : WR} {ls : List (List DC)} (hM : M0 t w ls) {h d : Int} {v : Nat → Int} (hv : vok v) (hd : -1000000000 ≤ d ∧ d ≤ 1000000000) : -1000000000 ≤ toldZ w ls h v d ∧ toldZ w ls h v d ≤ 1000000000 := by
  unfold toldZ
  split
  · exact hd
  · cases e : saysZ w ls h v with
    | none => exact hd
    | some z => exact saysZ_ok hM.ok hv e
theorem e_of (t : St) {c b : Int} (hc : 0 ≤ c ∧ c < 100) (hb : 0 ≤ b ∧ b ≤ 4) : F_X5_ofCatcher t (iI c) (iI b) = some (si t 2 (13 + 5 * c + b).toNat, t) := by
  unfold F_X5_ofCatcher
  rw [k_13, k_5, iI_mul, iI_add, iI_add, inb_g (by omega), iI_nat (by omega)]
theorem of0 {t : St} {w : WR} (h : RMi t w) {c : Int} (hc : 0 ≤ c ∧ c < 6) : F_X5_ofCatcher t (iI c) (iI 0) = some (iI (w 4 c), t) := by
  rw [e_of t (by omega) (by omega), show (13 + 5 * c + 0).toNat = (13 + 5 * c).toNat by omega, show si t 2 (13 + 5 * c).toNat = iI (w 4 c) from h 4 c hc.1 hc.2]
theorem of1 {t : St} {w : WR} (h : RMi t w) {c : Int} (hc : 0 ≤ c ∧ c < 6) : F_X5_ofCatcher t (iI c) (iI 1) = some (iI (w 5 c), t) := by
  rw [e_of t (by omega) (by omega), show (13 + 5 * c + 1).toNat = (14 + 5 * c).toNat by omega, show si t 2 (14 + 5 * c).toNat = iI (w 5 c) from h 5 c hc.1 hc.2]
theorem of2 {t : St} {w : WR} (h : RMi t w) {c : Int} (hc : 0 ≤ c ∧ c < 6) : F_X5_ofCatcher t (iI c) (iI 2) = some (iI (w 6 c), t) := by
  rw [e_of t (by omega) (by omega), show (13 + 5 * c + 2).toNat = (15 + 5 * c).toNat by omega, show si t 2 (15 + 5 * c).toNat = iI (w 6 c) from h 6 c hc.1 hc.2]
theorem of3 {t : St} {w : WR} (h : RMi t w) {c : Int} (hc : 0 ≤ c ∧ c < 6) : F_X5_ofCatcher t (iI c) (iI 3) = some (iI (w 3 c), t) := by
  rw [e_of t (by omega) (by omega), show (13 + 5 * c + 3).toNat = (16 + 5 * c).toNat by omega, show si t 2 (16 + 5 * c).toNat = iI (w 3 c) from h 3 c hc.1 hc.2]
theorem of4 {t : St} {w : WR} (h : RMi t w) {c : Int} (hc : 0 ≤ c ∧ c < 6) : F_X5_ofCatcher t (iI c) (iI 4) = some (iI (w 7 c), t) := by
  rw [e_of t (by omega) (by omega), show (13 + 5 * c + 4).toNat = (17 + 5 * c).toNat by omega, show si t 2 (17 + 5 * c).toNat = iI (w 7 c) from h 7 c hc.1 hc.2]
theorem Stl_sq {a k : Nat} (h : Stl a k) : Sq a k := Or.inl h
theorem e_X5_gripOf {t : St} {w : WR} {ls : List (List DC)} (hM : M0 t w ls) (hW : Wf w ls) {c far : Int} (hc : 0 ≤ c ∧ c < 6) (hl : 0 ≤ far ∧ far ≤ 1000) : ∃ t', F_X5_gripOf t (iI c) (iI far) = some (iI (gripZ w ls c far), t') ∧ Fm Sq t t' := by
  have hk := hW.cat hc.1 hc.2
  have ht := hW.trm
  obtain ⟨t1, e1, hV1, hF1⟩ := e_X5_setCatcher hM.1 (c := c) (want := w 5 c) (tall := w 6 c) (by omega) (by omega) (by omega) (by omega)
  obtain ⟨t2, e2, hV2, hF2⟩ := hV1.at 9 (a := 10) far (by omega) (by omega) (by omega)
  have hM2 := hM.sq (hF1.tr hF2)
  obtain ⟨t3, e3, hF3⟩ := e_X5_tells hM2 hW (h := 1) (d := w 6 c) (by omega) hV2
  have hz := toldZ_r hM2 (h := 1) (d := w 6 c) hV2.1 (by omega)
  unfold F_X5_gripOf
  rw [k_2, k_1, k_10, k_0, k_99, of2 hM.1 hc, bnd_s, of1 hM.1 hc, bnd_s, e1, bnd_s, inb_g (by omega), nam_v, e2, of2 hM2.1 hc, bnd_s, iI_l (by omega), e3, bnd_s, e_X5_within (by omega) (by omega) (by omega), bnd_s]
  refine ⟨t3, ?_, (hF1.tr hF2).tr (hF3.le fun _ _ => Stl_sq)⟩
  congr 3
  unfold toldZ gripZ
  show nearZ 0 99 (if w 2 10 = -1 then w 6 c else orZ (saysZ w ls 1 (up1 (vCat (w 8 8) c (w 6 c) (w 5 c)) 9 far)) (w 6 c)) = _
  by_cases h1 : w 2 10 = -1
  · rw [if_pos h1, if_pos h1]
    unfold nearZ
    omega
  · rw [if_neg h1, if_neg h1]
    cases saysZ w ls 1 (up1 (vCat (w 8 8) c (w 6 c) (w 5 c)) 9 far) with
    | none =>
      show nearZ 0 99 (w 6 c) = w 6 c
      unfold nearZ
      omega
    | some z => rfl
theorem e_X5_wedOf {t : St} {w : WR} {ls : List (List DC)} (hM : M0 t w ls) (hW : Wf w ls) {c far : Int} (hc : 0 ≤ c ∧ c < 6) (hl : 0 ≤ far ∧ far ≤ 1000) : ∃ t', F_X5_wedOf t (iI c) (iI far) = some (iI (wedZ w ls c far), t') ∧ Fm Sq t t' := by
  have hk := hW.cat hc.1 hc.2
  have ht := hW.trm
  obtain ⟨t1, e1, hV1, hF1⟩ := e_X5_setCatcher hM.1 (c := c) (want := w 5 c) (tall := w 6 c) (by omega) (by omega) (by omega) (by omega)
  obtain ⟨t2, e2, hV2, hF2⟩ := hV1.at 10 (a := 11) far (by omega) (by omega) (by omega)
  have hM2 := hM.sq (hF1.tr hF2)
  obtain ⟨t3, e3, hF3⟩ := e_X5_tells hM2 hW (h := 2) (d := 25) (by omega) hV2
  have hz := toldZ_r hM2 (h := 2) (d := 25) hV2.1 (by omega)
  unfold F_X5_wedOf
  rw [K_25, k_2, k_1, k_11, k_0, k_100, of2 hM.1 hc, bnd_s, of1 hM.1 hc, bnd_s, e1, bnd_s, inb_g (by omega), nam_v, e2, e3, bnd_s, e_X5_within (by omega) (by omega) (by omega), bnd_s]
  refine ⟨t3, ?_, (hF1.tr hF2).tr (hF3.le fun _ _ => Stl_sq)⟩
  congr 3
  unfold toldZ wedZ
  show nearZ 0 100 (if w 2 10 = -1 then 25 else orZ (saysZ w ls 2 (up1 (vCat (w 8 8) c (w 6 c) (w 5 c)) 10 far)) 25) = _
  by_cases h1 : w 2 10 = -1
  · rw [if_pos h1, if_pos h1]
    decide
  · rw [if_neg h1, if_neg h1]
    cases saysZ w ls 2 (up1 (vCat (w 8 8) c (w 6 c) (w 5 c)) 10 far) with
    | none => decide
    | some z => rfl
/-- a clause that bars tells 1 -/
theorem toldF_3 {v : Nat → Int} : ∀ (law : List DC) (o : Option Int), (∀ c ∈ law, c.1 = 3 → c.2.1 = none) → (∀ z, o = some z → z = 1) → ∀ z, toldF 3 v law o = some z → z = 1
  | [], o, _, ho, z, e => ho z e
  | c :: r, o, hc, ho, z, e => by
    refine toldF_3 r _ (fun x hx => hc x (List.mem_cons_of_mem _ hx)) (fun y hy => ?_) z e
    split at hy
    · rename_i h3
      have hn := hc c List.mem_cons_self h3
      have ht : ∀ u, tellC c v = some u → u = 1 := fun u hu => by
        cases e2 : c.2.2 with
        | none =>
          rw [tellC_n e2] at hu
          unfold wC at hu
          rw [hn] at hu
          cases hu
          rfl
        | some f =>
          rw [tellC_t e2] at hu
          unfold wC at hu
          rw [hn] at hu
          split at hu
          · cases hu
            rfl
          · cases hu
      split at hy
      · exact ho y hy
      · rename_i e3
        cases hy
        exact ht _ e3
    · exact ho y hy
theorem M0.bars {t : St} {w : WR} {ls : List (List DC)} (h : M0 t w ls) : ∀ l ∈ ls, ∀ c ∈ l, c.1 = 3 → c.2.1 = none := by
  intro l hl c hc
  obtain ⟨i, hi⟩ := List.mem_iff_getElem?.mp hl
  obtain ⟨C, n, -, -, -, -, h5⟩ := h.2.2.2 i l hi
  obtain ⟨j, hj⟩ := List.mem_iff_getElem?.mp hc
  exact (h5 j c hj).2.2.1
theorem saysZ_3 {t : St} {w : WR} {ls : List (List DC)} (h : M0 t w ls) {v : Nat → Int} {z : Int} (e : saysZ w ls 3 v = some z) : z = 1 := by
  refine toldF_3 _ none (fun c hc => ?_) (fun z e => by cases e) z e
  by_cases hx : (w 2 10).toNat < ls.length
  · rw [List.getD_eq_getElem?_getD, List.getElem?_eq_getElem hx] at hc
    exact h.bars _ (List.getElem_mem hx) c hc
  · rw [List.getD_eq_getElem?_getD, List.getElem?_eq_none (by omega)] at hc
    cases hc
theorem e_X5_isBarredBy {t : St} {w : WR} {ls : List (List DC)} (hM : M0 t w ls) (hW : Wf w ls) {c want tall cell : Int} (hc : -1000000000 ≤ c ∧ c ≤ 1000000000) (hw : -1000000000 ≤ want ∧ want ≤ 1000000000) (ht : -1000000000 ≤ tall ∧ tall ≤ 1000000000) (hl : 0 ≤ cell ∧ cell ≤ 1000000000) : ∃ t', F_X5_isBarredBy t (iI c) (iI tall) (iI want) (iI cell) = some (iI (bZ (barP w ls c want tall cell)), t') ∧ Fm Sq t t' := by
  have htr := hW.trm
  obtain ⟨t1, e1, hV1, hF1⟩ := e_X5_setCatcher hM.1 (c := c) (want := want) (tall := tall) (by omega) hc hw ht
  obtain ⟨t2, e2, hV2, hF2⟩ := hV1.at 11 (a := 12) (cell % 6) (by omega) (by omega) (by omega)
  obtain ⟨t3, e3, hV3, hF3⟩ := hV2.at 12 (a := 13) (cell / 6) (by omega) (by omega) (by omega)
  have hM3 := hM.sq ((hF1.tr hF2).tr hF3)
  obtain ⟨t4, e4, hF4⟩ := e_X5_tells hM3 hW (h := 3) (d := 0) (by omega) hV3
  unfold F_X5_isBarredBy
  rw [e1, bnd_s, k_12, k_13, k_6, iI_remn (by omega) (by omega), iI_divn (by omega) (by omega), inb_g (by omega), nam_v, e2, inb_g (by omega), nam_v, e3, k_3, K_0, e4, bnd_s]
  have hF := ((hF1.tr hF2).tr hF3).tr (hF4.le fun _ _ => Stl_sq)
  have hb : (lI (toldZ w ls 3 (up1 (up1 (vCat (w 8 8) c tall want) 11 (cell % 6)) 12 (cell / 6)) 0) = lI 1) ↔ barP w ls c want tall cell := by
    have hr := toldZ_r hM3 (h := 3) (d := 0) hV3.1 (by omega)
    rw [lI_eq (by omega) (by omega)]
    unfold toldZ barP
    by_cases h1 : w 2 10 = -1
    · rw [if_pos h1]
      exact ⟨fun z => by omega, fun z => absurd h1 z.1⟩
    · rw [if_neg h1]
      cases e : saysZ w ls 3 (up1 (up1 (vCat (w 8 8) c tall want) 11 (cell % 6)) 12 (cell / 6)) with
      | none => exact ⟨fun z => by change (0 : Int) = 1 at z; omega, fun z => absurd rfl z.2⟩
      | some z =>
        have := saysZ_3 hM e
        exact ⟨fun _ => ⟨h1, by simp⟩, fun _ => this⟩
  refine ⟨t4, ?_, hF⟩
  rw [K_1]
  by_cases h2 : barP w ls c want tall cell
  · rw [if_pos (hb.mpr h2), bZ_t h2]; rfl
  · rw [if_neg (fun z => h2 (hb.mp z)), bZ_f h2]; rfl
theorem e_X5_isBarred {t : St} {w : WR} {ls : List (List DC)} (hM : M0 t w ls) (hW : Wf w ls) {c cell : Int} (hc : 0 ≤ c ∧ c < 6) (hl : 0 ≤ cell ∧ cell ≤ 1000000000) : ∃ t', F_X5_isBarred t (iI c) (iI cell) = some (iI (bZ (barC w ls c cell)), t') ∧ Fm Sq t t' := by
  have hk := hW.cat hc.1 hc.2
  obtain ⟨t1, e1, hF1⟩ := e_X5_isBarredBy hM hW (c := c) (want := w 5 c) (tall := w 6 c) (cell := cell) (by omega) (by omega) (by omega) hl
  unfold F_X5_isBarred
  rw [k_2, k_1, of2 hM.1 hc, bnd_s, of1 hM.1 hc, bnd_s, e1, bnd_s, fits_b]
  exact ⟨t1, rfl, hF1⟩
theorem e_X5_slipWeighs {t : St} {w : WR} {ls : List (List DC)} (hM : M0 t w ls) (hW : Wf w ls) {f sd dx dy : Int} (h1 : -1000 ≤ f ∧ f ≤ 1000) (h2 : -1000 ≤ sd ∧ sd ≤ 1000) (h3 : -1000 ≤ dx ∧ dx ≤ 1000) (h4 : -1000 ≤ dy ∧ dy ≤ 1000) : ∃ t', F_X5_slipWeighs t (iI f) (iI sd) (iI dx) (iI dy) = some (iI (slipZ w ls f sd dx dy), t') ∧ Fm Sq t t' := by
  have htr := hW.trm
  obtain ⟨t0, e0, hV0, hF0⟩ := e_X5_clearSet hM.1 (by omega)
  obtain ⟨t1, e1, hV1, hF1⟩ := hV0.at 0 (a := 1) f (by omega) (by omega) (by omega)
  obtain ⟨t2, e2, hV2, hF2⟩ := hV1.at 1 (a := 2) sd (by omega) (by omega) (by omega)
  have hM2 := hM.sq ((hF0.tr hF1).tr hF2)
  obtain ⟨t3, e3, hV3, hF3⟩ := hV2.at 2 (a := 3) (w 8 2) (by omega) (by omega) (by omega)
  have hM3 := hM2.sq hF3
  obtain ⟨t4, e4, hV4, hF4⟩ := hV3.at 3 (a := 4) (w 8 3) (by omega) (by omega) (by omega)
  obtain ⟨t5, e5, hV5, hF5⟩ := hV4.at 4 (a := 5) dx (by omega) (by omega) (by omega)
  obtain ⟨t6, e6, hV6, hF6⟩ := hV5.at 5 (a := 6) dy (by omega) (by omega) (by omega)
  have hF := ((hF3.tr hF4).tr hF5).tr hF6
  have hM6 := hM2.sq hF
  have key : ∀ wo : Int, 1 ≤ wo ∧ wo ≤ 4 → woZ dx dy = wo → ∃ t', F_X5_slipWeighs_95 t6 (lI wo) (iI 0) = some (iI (slipZ w ls f sd dx dy), t') ∧ Fm Sq t t' := by
    intro wo hwo ew
    obtain ⟨t7, e7, hF7⟩ := e_X5_tells hM6 hW (h := 0) (d := wo) (by omega) hV6
    have hz := toldZ_r hM6 (h := 0) (d := wo) hV6.1 (by omega)
    unfold F_X5_slipWeighs_95
    rw [e7, bnd_s, k_0, k_9, e_X5_within (by omega) (by omega) (by omega), bnd_s]
    refine ⟨t7, ?_, ((hF0.tr hF1).tr hF2).tr (hF.tr (hF7.le fun _ _ => Stl_sq))⟩
    congr 3
    unfold toldZ slipZ slipO
    show nearZ 0 9 (if w 2 10 = -1 then wo else orZ (saysZ w ls 0 (vSlip w f sd dx dy)) wo) = _
    rw [ew]
    by_cases h1 : w 2 10 = -1
    · rw [if_pos h1, if_pos h1]
      unfold nearZ
      omega
    · rw [if_neg h1, if_neg h1]
      cases saysZ w ls 0 (vSlip w f sd dx dy) with
      | none =>
        show nearZ 0 9 wo = wo
        unfold nearZ
        omega
      | some z => rfl
  unfold F_X5_slipWeighs F_X5_slipWeighs_79 F_X5_slipWeighs_88
  rw [e0, bnd_s, k_1, k_2, k_3, k_4, k_5, k_6, k_0, K_1, K_2, K_4, inb_g (by omega), nam_v, e1, inb_g (by omega), nam_v, e2, e_X5_term hM2.1 (by omega), bnd_s, inb_g (by omega), nam_v, e3, e_X5_term hM3.1 (by omega), bnd_s, inb_g (by omega), nam_v, e4, inb_g (by omega), nam_v, e5, inb_g (by omega), nam_v, e6]
  simp (disch := omega) only [iI_eq]
  by_cases a : dx = 0
  · by_cases b : dy = 0
    · rw [if_pos a, if_pos b]
      exact key 4 (by omega) (by unfold woZ; omega)
    · rw [if_pos a, if_neg b, if_pos a]
      exact key 2 (by omega) (by unfold woZ; omega)
  · by_cases b : dy = 0
    · rw [if_neg a, if_neg a, if_pos b]
      exact key 2 (by omega) (by unfold woZ; omega)
    · rw [if_neg a, if_neg a, if_neg b]
      exact key 1 (by omega) (by unfold woZ; omega)
