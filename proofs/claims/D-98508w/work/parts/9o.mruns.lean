set_option maxRecDepth 100000
/-! ===== the model: orders run ===== -/
def Ssr (a j : Nat) : Prop := (a = 0 ∧ (j = 59 ∨ j = 60 ∨ j = 62)) ∨ a = 120
theorem M0.sr {t t' : St} {w : WR} {ls : List (List DC)} (h : M0 t w ls) (hf : Fm Ssr t t') : M0 t' w ls := by
  obtain ⟨q1, q2, q3, q4⟩ := h
  have g2 : ∀ j, si t' 2 j = si t 2 j := fun j => hf.i _ _ (by unfold Ssr; omega)
  exact ⟨q1.go hf fun a j hi z => by unfold inM at hi; unfold Ssr at z; omega, by rw [g2]; exact q2, by rw [hf.i _ _ (by unfold Ssr; omega)]; exact q3, fun i law e => (q4 i law e).go fun j _ _ => g2 j⟩
theorem Ssr_rn {a j : Nat} (h : Ssr a j) : Srn a j := by
  unfold Ssr at h
  unfold Srn
  omega
theorem OdM.at {t : St} {C : CD} {nc : Nat} {cs : List OC} (h : OdM t C nc cs) {i : Nat} {c : OC} (hc : cs[i]? = some c) : OrN t (8 * i) C nc c ∧ i < 12 := ⟨h.1 i c hc, by have := (List.getElem?_eq_some_iff.mp hc).1; have := h.2.2.2.2; omega⟩
/-- what one run answers, and leaves -/
def RnO (t : St) (ls : List (List DC)) (w : WR) (d r : Int) (c : OC) (x : Option (Int32 × St)) (now : Prop) (v : Nat → Int) : Prop := ∃ t', Fm Srn t t' ∧ (now → (runV w ls c v < 0 → x = some (iI (-3), t') ∧ M0 t' w ls) ∧ (0 ≤ runV w ls c v → x = some (iI 0, t') ∧ M0 t' (runW w ls c v) ls ∧ si t' 0 59 = iI (d + 1) ∧ si t' 0 60 = iI (if c.1 = 1 then runV w ls c v else r))) ∧ (¬ now → x = some (iI 0, t') ∧ M0 t' w ls ∧ si t' 0 59 = iI d ∧ si t' 0 60 = iI r)
theorem RnO.after {t t1 : St} {ls : List (List DC)} {w : WR} {d r : Int} {c : OC} {x : Option (Int32 × St)} {now : Prop} {v : Nat → Int} (h : RnO t1 ls w d r c x now v) (f : Fm Srn t t1) : RnO t ls w d r c x now v := by
  obtain ⟨t', f', a⟩ := h
  exact ⟨t', f.tr f', a⟩
theorem e_199 {t : St} {w : WR} {ls : List (List DC)} (hM : M0 t w ls) {d : Int} (h59 : si t 0 59 = iI d) : ∃ t', F_X5_run_199 t = some (iI 0, t') ∧ M0 t' w ls ∧ Fm Ssr t t' ∧ si t' 0 59 = iI (d + 1) ∧ si t' 0 60 = si t 0 60 := by
  have f : Fm Ssr t (setI t 0 59 (iI (d + 1))) := Fm.set (by unfold Ssr; omega)
  unfold F_X5_run_199
  rw [h59, k_1, iI_add, nam_v]
  exact ⟨_, rfl, hM.sr f, f, by rw [si_set, if_pos rfl, if_pos rfl], by rw [si_set, if_pos rfl, if_neg (by omega)]⟩
theorem e_run_83 {t : St} {w : WR} {ls : List (List DC)} (hM : M0 t w ls) (hW : Wf w ls) (hX : Wx w) {C : CD} {nc : Nat} {cs : List OC} (hO : OdM t C nc cs) {i : Nat} {c : OC} (hc : cs[i]? = some c) {v : Nat → Int} (hV : VlE true t v) (hoff : si t 0 62 = iI 0) {d r : Int} (h59 : si t 0 59 = iI d) (h60 : si t 0 60 = iI r) : RnO t ls w d r c (F_X5_run_83 t (iI ((8 * i : Nat) : Int))) True v := by
  obtain ⟨⟨o1, o2, o3, o4, o5, -⟩, hi⟩ := hO.at hc
  have hcv : OdC t C nc v := ⟨hO.2.1, hO.2.2.1, hV⟩
  have hvk : vok v := hV.1
  have hr := run_pure hW hX (c := c) (v := v)
  unfold F_X5_run_83
  rw [inb_g (by omega), iI_nat (by omega), Int.toNat_natCast, o1, k_2]
  by_cases a1 : c.1 = 1
  · -- rush
    have hn := o3.mpr a1
    rw [if_pos (show iI (moZ c.1) = iI 2 by rw [a1]; rfl)]
    obtain ⟨⟨t1, e1, hM1, f1⟩, hrr⟩ := e_X5_rushNow hM hW hX
    have eV : runV w ls c v = rushZ w ls := by unfold runV; rw [hn]
    have eW : runW w ls c v = rushW w ls := by unfold runW; rw [hn]
    have hp := rush_pure hW hX (ls := ls)
    have f1' : Fm Srn t t1 := f1.le fun _ _ => Or.inl
    rw [e1, bnd_s, k_0, show (-3 : Int32) = iI (-3) from rfl]
    by_cases a2 : rushZ w ls < 0
    · rw [if_neg (by rw [iI_le (by omega) (by omega)]; omega)]
      refine ⟨t1, f1', fun _ => ⟨fun _ => ⟨rfl, by rw [← hp.2.2.1 a2]; exact hM1⟩, fun z => by rw [eV] at z; omega⟩, fun z => absurd trivial z⟩
    · rw [if_pos (by rw [iI_le (by omega) (by omega)]; omega), nam_v]
      have f2 : Fm Ssr t1 (setI t1 0 60 (iI (rushZ w ls))) := Fm.set (by unfold Ssr; omega)
      have g59 : si (setI t1 0 60 (iI (rushZ w ls))) 0 59 = iI d := by rw [si_set, if_pos rfl, if_neg (by omega), f1.i _ _ (by unfold Reg inM Scr; omega)]; exact h59
      obtain ⟨t3, e3, hM3, f3, g1, g2⟩ := e_199 (hM1.sr f2) g59
      refine ⟨t3, (f1'.tr (f2.le fun _ _ => Ssr_rn)).tr (f3.le fun _ _ => Ssr_rn), fun _ => ⟨fun z => by rw [eV] at z; omega, fun _ => ⟨e3, by rw [eW]; exact hM3, g1, ?_⟩⟩, fun z => absurd trivial z⟩
      rw [g2, if_pos a1, eV, si_set, if_pos rfl, if_pos rfl]
  · -- go, believe
    obtain ⟨q, hq⟩ : ∃ q, c.2.1 = some q := by
      cases e : c.2.1 with
      | none => exact absurd (o3.mp e) a1
      | some q => exact ⟨q, rfl⟩
    obtain ⟨⟨hd1, hd2⟩, a, b, a', b', ⟨p1, p2, p3, p4⟩, ⟨p5, p6⟩, c1, c2⟩ := o4 q hq
    have eV : runV w ls c v = if c.1 = 0 then goZ w ls (toldO q.1 v) (toldO q.2 v) else belZ w (toldO q.1 v) (toldO q.2 v) := by unfold runV; rw [hq]
    have eW : runW w ls c v = if c.1 = 0 then goW w ls (toldO q.1 v) (toldO q.2 v) else belW w (toldO q.1 v) (toldO q.2 v) := by unfold runW; rw [hq]
    have hlarge : ∀ x, (toldO q.1 v = 1000000 ∨ toldO q.2 v = 1000000) → runV w ls c v = x → x < 0 := fun x h e => by
      have hb1 := toldO_r (f := q.1) (v := v)
      have hb2 := toldO_r (f := q.2) (v := v)
      have hm := hW.1
      have := told_go (w := w) (ls := ls) (a := toldO q.1 v) (b := toldO q.2 v) (a' := toldO q.1 v) (b' := toldO q.2 v) (Or.inl rfl) (Or.inl rfl) hm.2
      rw [← e, eV]
      unfold goZ belZ isC
      split
      · split
        · split
          · omega
          · omega
        · omega
      · split
        · split
          · omega
          · omega
        · omega
    have Od : ∀ {t' : St}, Fm Ssm t t' → si t' 0 21 = iI 0 → M0 t' w ls ∧ OdC t' C nc v := fun f h21 => ⟨hM.ssm f h21, hcv.go f⟩
    have k27 : ∀ {t' : St}, Fm Ssm t t' → ∀ j, si t' 27 j = si t 27 j := fun f j => f.i _ _ (by unfold Ssm Srk; omega)
    have run1 := (c1 C fun _ _ _ => rfl).run hvk
    have run2 := (c2 C fun _ _ _ => rfl).run hvk
    obtain ⟨t1, z1, e1, f1, g21, h1⟩ := e_X5_sumOf hcv hoff (x := 8 * i + 1) (by omega) p1 p2 ⟨c1.lt, p5⟩ run1
    obtain ⟨hM1, hO1⟩ := Od f1 g21
    rw [if_neg (show ¬ iI (moZ c.1) = iI 2 by rw [iI_eq (by unfold moZ; omega) (by omega)]; unfold moZ; omega), k_1, iI_add, k_3, iI_add, show (((8 * i : Nat) : Int) + 1) = ((8 * i + 1 : Nat) : Int) by omega, show (((8 * i : Nat) : Int) + 3) = ((8 * i + 3 : Nat) : Int) by omega, e1, bnd_s, k_0]
    have toRn : ∀ {s s' : St}, Fm Ssm s s' → Fm Srn s s' := fun f => f.le fun _ _ => Ssm_rn
    cases ev1 : q.1 v with
    | none =>
      rw [ev1] at h1
      have h1 : si t1 0 62 = iI 1 := h1
      rw [sumOf_off h1, bnd_s, if_neg (show ¬ si t1 0 62 = iI 0 by rw [h1]; decide)]
      have hneg := hlarge _ (Or.inl (by unfold toldO; rw [ev1])) rfl
      exact ⟨t1, toRn f1, fun _ => ⟨fun _ => ⟨rfl, hM1⟩, fun z => by omega⟩, fun z => absurd trivial z⟩
    | some y1 =>
      rw [ev1] at h1
      have h1 : si t1 0 62 = iI 0 ∧ z1 = lI y1 := h1
      obtain ⟨t2, z2, e2, f2, g21', h2⟩ := e_X5_sumOf hO1 h1.1 (x := 8 * i + 3) (by omega) ((k27 f1 _).trans p3) ((k27 f1 _).trans p4) ⟨c2.lt, p6⟩ run2
      obtain ⟨hM2, hO2⟩ := Od (f1.tr f2) g21'
      rw [e2, bnd_s]
      cases ev2 : q.2 v with
      | none =>
        rw [ev2] at h2
        have h2 : si t2 0 62 = iI 1 := h2
        rw [if_neg (show ¬ si t2 0 62 = iI 0 by rw [h2]; decide)]
        have hneg := hlarge _ (Or.inr (by unfold toldO; rw [ev2])) rfl
        exact ⟨t2, toRn (f1.tr f2), fun _ => ⟨fun _ => ⟨rfl, hM2⟩, fun z => by omega⟩, fun z => absurd trivial z⟩
      | some y2 =>
        rw [ev2] at h2
        have h2 : si t2 0 62 = iI 0 ∧ z2 = lI y2 := h2
        have b1 := hd1 v hvk y1 ev1
        have b2 := hd2 v hvk y2 ev2
        have t1' : toldO q.1 v = if y1 < -1 ∨ 1000000 ≤ y1 then 1000000 else y1 := by unfold toldO; rw [ev1]
        have t2' : toldO q.2 v = if y2 < -1 ∨ 1000000 ≤ y2 then 1000000 else y2 := by unfold toldO; rw [ev2]
        have m1 : toldO q.1 v = y1 ∨ ((y1 < -1 ∨ 1000000 ≤ y1) ∧ toldO q.1 v = 1000000) := by
          rw [t1']
          split
          · exact Or.inr ⟨by assumption, rfl⟩
          · exact Or.inl rfl
        have m2 : toldO q.2 v = y2 ∨ ((y2 < -1 ∨ 1000000 ≤ y2) ∧ toldO q.2 v = 1000000) := by
          rw [t2']
          split
          · exact Or.inr ⟨by assumption, rfl⟩
          · exact Or.inl rfl
        have cmp := told_go (w := w) (ls := ls) m1 m2 hW.1.2
        have g59 : si t2 0 59 = iI d := by rw [(f1.tr f2).i _ _ (by unfold Ssm Srk; omega)]; exact h59
        have g60 : si t2 0 60 = iI r := by rw [(f1.tr f2).i _ _ (by unfold Ssm Srk; omega)]; exact h60
        have q1 : si t2 27 (8 * i) = iI (moZ c.1) := (k27 (f1.tr f2) _).trans o1
        have F12 := toRn (f1.tr f2)
        rw [if_pos h2.1, inb_g (by omega), q1, h1.2, h2.2, lI_i (by omega), lI_i (by omega)]
        -- the end, whichever it is
        by_cases a0 : c.1 = 0
        · rw [if_pos (show iI (moZ c.1) = iI 0 by rw [a0]; rfl)]
          obtain ⟨t3, e3, hM3, f3⟩ := e_X5_goNow hM2 hW hX (c := y1) (cell := y2) ⟨by omega, by omega⟩ ⟨by omega, by omega⟩
          have eVg : runV w ls c v = goZ w ls (toldO q.1 v) (toldO q.2 v) := by rw [eV, if_pos a0]
          have eWg : runW w ls c v = goW w ls (toldO q.1 v) (toldO q.2 v) := by rw [eW, if_pos a0]
          have grr := goZ_r (ls := ls) hW (c := y1) (cell := y2)
          have F3 : Fm Srn t t3 := F12.tr (f3.le fun _ _ => Or.inl)
          rw [e3, bnd_s]
          unfold F_X5_run_165
          rw [k_0]
          by_cases ng : goZ w ls y1 y2 < 0
          · rw [if_neg (by rw [iI_le (by omega) (by omega)]; omega)]
            have hw3 : goW w ls y1 y2 = w := by unfold goW; rw [if_neg (by omega)]
            have hneg : runV w ls c v < 0 := by
              rw [eVg]
              rcases cmp with ⟨x1, x2⟩ | x
              · rw [x1, x2]; exact ng
              · exact x.1.2
            exact ⟨t3, F3, fun _ => ⟨fun _ => ⟨rfl, by rw [← hw3]; exact hM3⟩, fun z => by omega⟩, fun z => absurd trivial z⟩
          · have cm : toldO q.1 v = y1 ∧ toldO q.2 v = y2 := by
              rcases cmp with x | x
              · exact x
              · exact absurd x.1.1 ng
            rw [if_pos (by rw [iI_le (by omega) (by omega)]; omega), inb_g (by omega), iI_nat (by omega), Int.toNat_natCast, show si t3 27 (8 * i) = iI (moZ c.1) by rw [f3.i _ _ (by unfold Reg inM Scr; omega)]; exact q1, if_neg (show ¬ iI (moZ c.1) = (1 : Int32) by rw [a0]; decide)]
            obtain ⟨t4, e4, hM4, f4, j1, j2⟩ := e_199 hM3 (d := d) (by rw [f3.i _ _ (by unfold Reg inM Scr; omega)]; exact g59)
            refine ⟨t4, F3.tr (f4.le fun _ _ => Ssr_rn), fun _ => ⟨fun z => by rw [eVg, cm.1, cm.2] at z; omega, fun _ => ⟨e4, by rw [eWg, cm.1, cm.2]; exact hM4, j1, ?_⟩⟩, fun z => absurd trivial z⟩
            rw [j2, if_neg a1, f3.i _ _ (by unfold Reg inM Scr; omega)]
            exact g60
        · have a2 : c.1 = 2 := by omega
          rw [if_neg (show ¬ iI (moZ c.1) = iI 0 by rw [a2]; decide)]
          have e3 := e_X5_cannotBelieve hM2 hW.1 (c := y1) (cell := y2) ⟨by omega, by omega⟩ ⟨by omega, by omega⟩
          have eVb : runV w ls c v = belZ w (toldO q.1 v) (toldO q.2 v) := by rw [eV, if_neg a0]
          have eWb : runW w ls c v = belW w (toldO q.1 v) (toldO q.2 v) := by rw [eW, if_neg a0]
          have brr := belZ_m (w := w) (c := y1) (cell := y2)
          rw [e3, bnd_s]
          unfold F_X5_run_165
          rw [k_0]
          by_cases ng : belZ w y1 y2 < 0
          · rw [if_neg (by rw [iI_le (by omega) (by omega)]; omega)]
            have hneg : runV w ls c v < 0 := by
              rw [eVb]
              rcases cmp with ⟨x1, x2⟩ | x
              · rw [x1, x2]; exact ng
              · exact x.2.2
            exact ⟨t2, F12, fun _ => ⟨fun _ => ⟨rfl, hM2⟩, fun z => by omega⟩, fun z => absurd trivial z⟩
          · have cm : toldO q.1 v = y1 ∧ toldO q.2 v = y2 := by
              rcases cmp with x | x
              · exact x
              · exact absurd x.2.1 ng
            have hb : belZ w y1 y2 = 0 ∧ isC w y1 ∧ (-1 ≤ y2 ∧ y2 ≤ 35) := by
              rcases brr with x | x
              · exact x
              · omega
            have hic : 0 ≤ y1 ∧ y1 < 6 := by
              have h := hb.2.1
              unfold isC at h
              have := hW.1
              omega
            rw [if_pos (by rw [iI_le (by omega) (by omega)]; omega), inb_g (by omega), iI_nat (by omega), Int.toNat_natCast, q1, if_pos (show iI (moZ c.1) = (1 : Int32) by rw [a2]; rfl), show (13 : Int32) = iI 13 from rfl, show (5 : Int32) = iI 5 from rfl, show (4 : Int32) = iI 4 from rfl, iI_mul, iI_add, iI_add, inb_g (by omega), iI_nat (by omega), nam_v]
            have hM3 := hM2.set (r := 7) (k := y1) (v := y2) (a := 2) (j := (13 + 5 * y1 + 4).toNat) (by show _ < _; omega) hic.1 rfl (by show _ = (17 + 5 * y1).toNat; omega)
            have f3 : Fm Srn t2 (setI t2 2 (13 + 5 * y1 + 4).toNat (iI y2)) := (Fm.reg (r := 7) (k := y1) (by show _ < _; omega) hic.1 rfl (by show _ = (17 + 5 * y1).toNat; omega)).le fun _ _ => Or.inl
            obtain ⟨t4, e4, hM4, f4, j1, j2⟩ := e_199 hM3 (d := d) g59
            have hwb : belW w y1 y2 = wup w 7 y1 y2 := by unfold belW; rw [if_pos hb.1]
            refine ⟨t4, (F12.tr f3).tr (f4.le fun _ _ => Ssr_rn), fun _ => ⟨fun z => by rw [eVb, cm.1, cm.2] at z; omega, fun _ => ⟨e4, by rw [eWb, cm.1, cm.2, hwb]; exact hM4, j1, ?_⟩⟩, fun z => absurd trivial z⟩
            rw [j2, if_neg a1]
            exact g60
theorem vl_ord {t : St} {w : WR} {ls : List (List DC)} (hW : Wf w ls) (hR : RMi t w) {d r : Int} (hd : 0 ≤ d ∧ d ≤ 1000) (hr : -1 ≤ r ∧ r ≤ 1000) (h1 : sl t 20 1 = lI (w 2 8)) (h2 : sl t 20 2 = lI d) (h3 : sl t 20 3 = lI r) : VlE true t (vOrd w d r) := by
  refine ⟨vOrd_ok hW hd hr, fun k hk => ?_, w, hR, hW.1, fun c c0 c5 => ?_⟩
  · have : k = 0 ∨ k = 1 ∨ k = 2 := by omega
    rcases this with rfl | rfl | rfl
    · exact h1
    · exact h2
    · exact h3
  · unfold vOrd
    constructor
    · rw [if_neg (by omega), if_neg (by omega), if_neg (by omega), if_pos (by omega), show ((3 + c.toNat : Nat) : Int) - 3 = c by omega]
    · rw [if_neg (by omega), if_neg (by omega), if_neg (by omega), if_neg (by omega), if_pos (by omega), show ((9 + c.toNat : Nat) : Int) - 9 = c by omega]
theorem e_X5_run {t : St} {w : WR} {ls : List (List DC)} (hM : M0 t w ls) (hW : Wf w ls) (hX : Wx w) {C : CD} {nc : Nat} {cs : List OC} (hO : OdM t C nc cs) {i : Nat} {c : OC} (hc : cs[i]? = some c) {d r : Int} (hd : 0 ≤ d ∧ d ≤ 1000) (hr : -1 ≤ r ∧ r ≤ 1000) (h59 : si t 0 59 = iI d) (h60 : si t 0 60 = iI r) : RnO t ls w d r c (F_X5_run t (iI ((8 * i : Nat) : Int))) (nowP c.2.2.2 (vOrd w d r)) (vOrd w d r) := by
  have hi := (hO.at hc).2
  have hm := hW.1
  have f1 : Fm Ssr t (setI (setL (setL (setL t 20 1 (lI (w 2 8))) 20 2 (lI d)) 20 3 (lI r)) 0 62 (iI 0)) := (((Fm.setL (by unfold Ssr; omega)).tr (Fm.setL (by unfold Ssr; omega))).tr (Fm.setL (by unfold Ssr; omega))).tr (Fm.set (by unfold Ssr; omega))
  have F1 : Fm Srn t _ := f1.le fun _ _ => Ssr_rn
  have l1 : sl (setI (setL (setL (setL t 20 1 (lI (w 2 8))) 20 2 (lI d)) 20 3 (lI r)) 0 62 (iI 0)) 20 1 = lI (w 2 8) := rfl
  have l2 : sl (setI (setL (setL (setL t 20 1 (lI (w 2 8))) 20 2 (lI d)) 20 3 (lI r)) 0 62 (iI 0)) 20 2 = lI d := rfl
  have l3 : sl (setI (setL (setL (setL t 20 1 (lI (w 2 8))) 20 2 (lI d)) 20 3 (lI r)) 0 62 (iI 0)) 20 3 = lI r := rfl
  have g62 : si (setI (setL (setL (setL t 20 1 (lI (w 2 8))) 20 2 (lI d)) 20 3 (lI r)) 0 62 (iI 0)) 0 62 = iI 0 := rfl
  have pre : F_X5_run t (iI ((8 * i : Nat) : Int)) = (fun s11 => if (si s11 27 (8 * i + 6)) ≤ (si s11 27 (8 * i + 5)) then (F_X5_run_83 s11 (iI ((8 * i : Nat) : Int))) else (bnd (F_X5_sumOf s11 (iI ((8 * i + 5 : Nat) : Int))) fun r16 s17 => if (si s17 0 62) = 0 then (if r16 = (0 : Int64) then (some ((0 : Int32), s17)) else (F_X5_run_83 s17 (iI ((8 * i : Nat) : Int)))) else (some ((0 : Int32), s17)))) (setI (setL (setL (setL t 20 1 (lI (w 2 8))) 20 2 (lI d)) 20 3 (lI r)) 0 62 (iI 0)) := by
    unfold F_X5_run
    rw [gd_ok (show inb (0 : Int32) 5460 = true by decide), gd_ok (show inb (1 : Int32) 13 = true by decide), show (Int32.toNatClampNeg 0) = 0 from rfl, show (Int32.toNatClampNeg 1) = 1 from rfl, hM.1.many, iI_l (by omega), nam_v, gd_ok (show inb (2 : Int32) 13 = true by decide), show (Int32.toNatClampNeg 2) = 2 from rfl, show si (setL t 20 1 (lI (w 2 8))) 0 59 = iI d from h59, iI_l (by omega), nam_v, gd_ok (show inb (3 : Int32) 13 = true by decide), show (Int32.toNatClampNeg 3) = 3 from rfl, show si (setL (setL t 20 1 (lI (w 2 8))) 20 2 (lI d)) 0 60 = iI r from h60, iI_l (by omega), nam_v, k_0, nam_v, show (5 : Int32) = iI 5 from rfl, show (6 : Int32) = iI 6 from rfl, iI_add, iI_add, inb_g (by omega), inb_g (by omega), iI_nat (by omega), iI_nat (by omega), show (((8 * i : Nat) : Int) + 5).toNat = 8 * i + 5 by omega, show (((8 * i : Nat) : Int) + 6).toNat = 8 * i + 6 by omega, show (((8 * i : Nat) : Int) + 5) = ((8 * i + 5 : Nat) : Int) by omega]
  rw [pre]
  have hM1 := hM.sr f1
  have hO1 := hO.go F1
  have g59 : si (setI (setL (setL (setL t 20 1 (lI (w 2 8))) 20 2 (lI d)) 20 3 (lI r)) 0 62 (iI 0)) 0 59 = iI d := h59
  have g60 : si (setI (setL (setL (setL t 20 1 (lI (w 2 8))) 20 2 (lI d)) 20 3 (lI r)) 0 62 (iI 0)) 0 60 = iI r := h60
  refine RnO.after ?_ F1
  generalize setI (setL (setL (setL t 20 1 (lI (w 2 8))) 20 2 (lI d)) 20 3 (lI r)) 0 62 (iI 0) = t1 at l1 l2 l3 g62 hM1 hO1 g59 g60
  have hV := vl_ord hW hM1.1 hd hr l1 l2 l3
  obtain ⟨⟨-, -, -, -, -, o6, o7⟩, -⟩ := hO1.at hc
  show RnO t1 ls w d r c (if (si t1 27 (8 * i + 6)) ≤ (si t1 27 (8 * i + 5)) then _ else _) _ _
  cases et : c.2.2.2 with
  | none =>
    obtain ⟨a, i1, i2, i3⟩ := o6 et
    have hnow : nowP none (vOrd w d r) := fun te z => by cases z
    rw [i1, i2, if_pos (by rw [iI_le (by omega) (by omega)]; omega)]
    obtain ⟨t', f, h1, h2⟩ := e_run_83 hM1 hW hX hO1 hc hV g62 g59 g60
    exact ⟨t', f, fun _ => h1 trivial, fun z => absurd hnow z⟩
  | some te =>
    obtain ⟨a, b, i1, i2, i3, i4⟩ := o7 te et
    have hlt := i4.lt
    have hnc := hO1.2.2.1
    have rn := (i4 C fun _ _ _ => rfl).run hV.1
    obtain ⟨t2, z2, e2, f2, g21, h2⟩ := e_X5_sumOf ⟨hO1.2.1, hnc, hV⟩ g62 (x := 8 * i + 5) (by omega) i1 i2 ⟨hlt, i3⟩ rn
    have hM2 := hM1.ssm f2 g21
    have F2 : Fm Srn t1 t2 := f2.le fun _ _ => Ssm_rn
    have k59 : si t2 0 59 = iI d := by rw [f2.i _ _ (by unfold Ssm Srk; omega)]; exact g59
    have k60 : si t2 0 60 = iI r := by rw [f2.i _ _ (by unfold Ssm Srk; omega)]; exact g60
    rw [i1, i2, if_neg (by rw [iI_le (by omega) (by omega)]; omega), e2, bnd_s]
    have hnp : nowP (some te) (vOrd w d r) ↔ te (vOrd w d r) = some true := ⟨fun z => z te rfl, fun z x hx => by cases hx; exact z⟩
    cases ev : te (vOrd w d r) with
    | none =>
      rw [ev] at h2
      have h2 : si t2 0 62 = iI 1 := h2
      rw [if_neg (show ¬ si t2 0 62 = (0 : Int32) by rw [h2]; decide)]
      exact ⟨t2, F2, (fun z => by rw [hnp, ev] at z; cases z), fun _ => ⟨rfl, hM2, k59, k60⟩⟩
    | some bb =>
      rw [ev] at h2
      have h2 : si t2 0 62 = iI 0 ∧ z2 = lI (tZ bb) := h2
      rw [if_pos (show si t2 0 62 = (0 : Int32) from h2.1), h2.2]
      cases bb with
      | false =>
        rw [if_pos (show lI (tZ false) = (0 : Int64) from rfl)]
        exact ⟨t2, F2, (fun z => by rw [hnp, ev] at z; cases z), fun _ => ⟨rfl, hM2, k59, k60⟩⟩
      | true =>
        rw [if_neg (show ¬ lI (tZ true) = (0 : Int64) by decide)]
        obtain ⟨t', f, h1, -⟩ := e_run_83 hM2 hW hX (hO1.go F2) hc ((OdC.go ⟨hO1.2.1, hnc, hV⟩ f2).2.2) h2.1 k59 k60
        exact ⟨t', F2.tr f, fun _ => h1 trivial, fun z => absurd (hnp.mpr ev) z⟩
