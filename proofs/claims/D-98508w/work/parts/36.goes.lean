set_option maxRecDepth 100000
/-! ===== the component: beliefs, goings, undo ===== -/
noncomputable def belZ (w : WR) (c cell : Int) : Int := @ite _ (-1 ≤ cell ∧ cell ≤ 35) (Classical.propDecidable _) (@ite _ (isC w c) (Classical.propDecidable _) 0 (-2)) (-1)
noncomputable def belW (w : WR) (c cell : Int) : WR := if belZ w c cell = 0 then wup w 7 c cell else w
theorem belZ_r {w : WR} {c cell : Int} : belZ w c cell = 0 ∨ (-6 ≤ belZ w c cell ∧ belZ w c cell < 0) := by
  unfold belZ
  split
  · split <;> omega
  · omega
theorem e_X0_believesKept {D : Nat → Prop} {s : St} {w : WR} {ls : List (List DC)} (hC : C0 D s w ls) (hW : Wf w ls) {c cell : Int} (h1 : i32 c) (h2 : i32 cell) : Op D s ls (F_X0_believesKept s (iI c) (iI cell)) (belZ w c cell) (belW w c cell) := by
  have hm := hW.1
  unfold i32 at h1 h2
  have key : -1 ≤ cell ∧ cell ≤ 35 → Op D s ls (F_X0_believesKept_14 s (iI c) (iI cell)) (belZ w c cell) (belW w c cell) := fun h => by
    unfold F_X0_believesKept_14 belW belZ
    rw [e_X0_isCatcher hC.2.1 hm h1, bnd_s, k_m2, k_0, if_pos h]
    by_cases a2 : isC w c
    · have a3 : 0 ≤ c ∧ c < w 2 8 := a2
      rw [if_neg (by rw [bZ_i0]; exact fun z => z a2), if_pos a2, if_pos rfl, inb_g (by omega), nam_v, iI_nat (by omega)]
      exact (Op.ret (hC.set 7 (by omega) (by decide))).after (Sm.set (by decide))
    · rw [if_pos (by rw [bZ_i0]; exact a2), if_neg a2, if_neg (by omega)]
      exact Op.ret hC
  unfold F_X0_believesKept
  rw [k_m1, k_0]
  by_cases a1 : cell = -1
  · rw [if_pos (by rw [a1])]
    exact key (by omega)
  · rw [if_neg (by rw [iI_eq (by omega) (by omega)]; exact a1), e_X0_isCell s h2, bnd_s]
    by_cases a2 : 0 ≤ cell ∧ cell ≤ 35
    · rw [if_neg (by rw [bZ_i0]; exact fun z => z a2)]
      exact key (by omega)
    · rw [if_pos (by rw [bZ_i0]; exact a2)]
      unfold belW belZ
      rw [if_neg (by omega), if_neg (by omega)]
      exact Op.ret hC
noncomputable def believeV (w : WR) (c cell : Int) : Int := if belZ w c cell = 0 then w 7 c else belZ w c cell
noncomputable def believeW (w : WR) (c cell : Int) : WR := if belZ w c cell = 0 then wup (wup w 7 c cell) 0 0 0 else refW w (belZ w c cell)
theorem x_believe {D : Nat → Prop} {s : St} {w : WR} {ls : List (List DC)} (hC : C0 D s w ls) (hW : Wf w ls) {c cell : Int} (h1 : i32 c) (h2 : i32 cell) : Op D s ls (F_X0_believe s (iI c) (iI cell)) (believeV w c cell) (believeW w c cell) := by
  have hm := hW.1
  obtain ⟨s1, e, hC1, hS1⟩ := e_X0_believesKept hC hW h1 h2
  have key : ∀ z : Int, (isC w c → z = w 7 c) → Op D s ls (F_X0_believe_21 s (iI c) (iI cell) (iI z)) (believeV w c cell) (believeW w c cell) := fun z hz => by
    unfold F_X0_believe_21 believeV believeW
    unfold belW at hC1
    rw [e, bnd_s, k_0]
    rcases belZ_r (w := w) (c := c) (cell := cell) with h | h
    · rw [if_pos h] at hC1
      have hc : isC w c := by
        unfold belZ at h
        split at h
        · split at h
          · assumption
          · omega
        · omega
      rw [if_pos (by rw [h]; decide), if_pos h, if_pos h, hz hc]
      exact (Op.done hC1 _).bnd.after hS1
    · rw [if_neg (by omega)] at hC1
      rw [if_neg (by rw [iI_le (by omega) (by omega)]; omega), if_neg (by omega), if_neg (by omega)]
      exact (Op.refuse hC1 h).bnd.after hS1
  unfold F_X0_believe
  rw [e_X0_isCatcher hC.2.1 hm h1, bnd_s, k_m1, k_0]
  by_cases a2 : isC w c
  · have a3 : 0 ≤ c ∧ c < w 2 8 := a2
    rw [if_neg (by rw [bZ_i0]; exact fun z => z a2), inb_g (by omega), iI_nat (by omega), hC.2.1 7 c a3.1 (by show _ < _; omega)]
    exact key _ (fun _ => rfl)
  · rw [if_pos (by rw [bZ_i0]; exact a2)]
    exact key _ (fun z => absurd z a2)
noncomputable def asksV (w : WR) (ls : List (List DC)) (c what far : Int) : Int :=
  @ite _ (isC w c) (Classical.propDecidable _) (if what = 0 then (if 0 ≤ far ∧ far ≤ 10 then gripZ w ls c far else -1) else if what = 1 then (if 0 ≤ far ∧ far ≤ 1 then wedZ w ls c far else -1) else if what = 2 then (if 0 ≤ far ∧ far ≤ 35 then bZ (barC w ls c far) else -1) else -1) (-1)
theorem x_asks {D : Nat → Prop} {s : St} {w : WR} {ls : List (List DC)} (hC : C0 D s w ls) (hW : Wf w ls) {c what far : Int} (h1 : i32 c) (h2 : i32 what) (h3 : i32 far) : Op D s ls (F_X0_asks s (iI c) (iI what) (iI far)) (asksV w ls c what far) w := by
  have hm := hW.1
  unfold i32 at h1 h2 h3
  unfold F_X0_asks asksV
  rw [e_X0_isCatcher hC.2.1 hm h1, bnd_s, k_m1, k_0, k_1, k_2, k_10, e_X0_in s (by omega) (by omega) (by omega), e_X0_in s (by omega) (by omega) (by omega), e_X0_isCell s h3, bnd_s, bnd_s, bnd_s]
  by_cases a2 : isC w c
  · have a3 : 0 ≤ c ∧ c < w 2 8 := a2
    rw [if_neg (by rw [bZ_i0]; exact fun z => z a2), if_pos a2]
    by_cases b0 : what = 0
    · rw [if_pos (by rw [b0]), if_pos b0]
      by_cases d : 0 ≤ far ∧ far ≤ 10
      · obtain ⟨g, e⟩ := e_X0_grip hC hW (c := c) (far := far) (by omega) (by omega)
        rw [if_neg (by rw [bZ_i0]; exact fun z => z d), if_pos d, e, bnd_s]
        exact (Op.ret hC.wV).after Sm.wV
      · rw [if_pos (by rw [bZ_i0]; exact d), if_neg d]
        exact Op.ret hC
    · rw [if_neg (by rw [iI_eq (by omega) (by omega)]; exact b0), if_neg b0]
      by_cases b1 : what = 1
      · rw [if_pos (by rw [b1]), if_pos b1]
        by_cases d : 0 ≤ far ∧ far ≤ 1
        · obtain ⟨g, e⟩ := e_X0_wed hC hW (c := c) (far := far) (by omega) (by omega)
          rw [if_neg (by rw [bZ_i0]; exact fun z => z d), if_pos d, e, bnd_s]
          exact (Op.ret hC.wV).after Sm.wV
        · rw [if_pos (by rw [bZ_i0]; exact d), if_neg d]
          exact Op.ret hC
      · rw [if_neg (by rw [iI_eq (by omega) (by omega)]; exact b1), if_neg b1]
        by_cases b2 : what = 2
        · rw [if_pos (by rw [b2]), if_pos b2]
          by_cases d : 0 ≤ far ∧ far ≤ 35
          · obtain ⟨g, e⟩ := e_X0_isBarred_2 hC hW (c := c) (cell := far) (by omega) (by omega)
            rw [if_neg (by rw [bZ_i0]; exact fun z => z d), if_pos d, e, bnd_s]
            by_cases hb : barC w ls c far
            · rw [if_neg (by rw [bZ_i0]; exact fun z => z hb), bZ_t hb]
              exact (Op.ret hC.wV).after Sm.wV
            · rw [if_pos (by rw [bZ_i0]; exact hb), bZ_f hb]
              exact (Op.ret hC.wV).after Sm.wV
          · rw [if_pos (by rw [bZ_i0]; exact d), if_neg d]
            exact Op.ret hC
        · rw [if_neg (by rw [iI_eq (by omega) (by omega)]; exact b2), if_neg b2]
          exact Op.ret hC
  · rw [if_pos (by rw [bZ_i0]; exact a2), if_neg a2]
    exact Op.ret hC
def wcp (w : WR) (a : Nat) (i : Int) (b : Nat) (j n : Int) : WR := fun r k => if r = b ∧ j ≤ k ∧ k < j + n then w a (i + (k - j)) else w r k
theorem si_cpy {s : St} {a i b j n x : Nat} : si (cpyI s a i b j n) x = if x = b then va_cpy (si s a) (si s b) i j n else si s x := rfl
theorem RCi.cpy {s : St} {w : WR} (h : RCi s w) {a b : Nat} {i j n : Int} (hi : 0 ≤ i) (hj : 0 ≤ j) (hn : 0 ≤ n) (hr : ∀ k, i ≤ k → k < i + n → relC a k) : RCi (cpyI s a i.toNat b j.toNat n.toNat) (wcp w a i b j n) := by
  intro r k h0 h1
  rw [si_cpy]
  unfold wcp va_cpy
  by_cases e : r = b
  · rw [if_pos e]
    by_cases e2 : j ≤ k ∧ k < j + n
    · rw [if_pos (by omega), if_pos ⟨e, e2⟩, show i.toNat + (k.toNat - j.toNat) = (i + (k - j)).toNat by omega]
      exact h a _ (by omega) (hr _ (by omega) (by omega))
    · rw [if_neg (by omega), if_neg (fun z => e2 z.2), ← e]
      exact h r k h0 h1
  · rw [if_neg e, if_neg (fun z => e z.1)]
    exact h r k h0 h1
theorem C0.cpy {D : Nat → Prop} {s : St} {w : WR} {ls : List (List DC)} (h : C0 D s w ls) {a b : Nat} {i j n : Int} (hi : 0 ≤ i) (hj : 0 ≤ j) (hn : 0 ≤ n) (hr : ∀ k, i ≤ k → k < i + n → relC a k) (hb : b < 31 ∧ b ≠ 10) : C0 D (cpyI s a i.toNat b j.toNat n.toNat) (wcp w a i b j n) ls := by
  obtain ⟨h1, h2, ⟨b', c, f, hL, hE⟩, hD⟩ := h
  have hk : Kp D s (cpyI s a i.toNat b j.toNat n.toNat) := fun x hx => ⟨rfl, by
    have e : x ≠ b := fun z => by have := hD x hx; omega
    rw [si_cpy, if_neg e], rfl, rfl⟩
  refine ⟨h1.same rfl rfl, h2.cpy hi hj hn hr, ⟨b', c, f, ⟨hL.1, hL.2.1, hL.2.2.1, hL.2.2.2.1, hL.2.2.2.2.1, ?_, hL.2.2.2.2.2.2⟩, fun i x hx => (hE i x hx).go hk⟩, hD⟩
  rw [si_cpy, if_neg (fun z => hb.2 z.symm)]
  exact hL.2.2.2.2.2.1
theorem Sm.cpy {s : St} {a i b j n : Nat} (h : b < 31) : Sm s (cpyI s a i b j n) := ⟨rfl, rfl, ⟨rfl, rfl, rfl, rfl⟩, fun x hx => by rw [si_cpy, if_neg (by omega)], fun _ _ _ => rfl⟩
theorem okC_t {i j n : Int} {a b : Nat} (hi : 0 ≤ i ∧ i ≤ 1000000) (hj : 0 ≤ j ∧ j ≤ 1000000) (hn : 0 ≤ n ∧ n ≤ 1000000) (ha : i + n ≤ a) (hb : j + n ≤ b) : okC (iI i) (iI j) (iI n) a b = true := by
  unfold okC
  have e1 : ¬ iI i < 0 := by rw [k_0, iI_lt (by omega) (by omega)]; omega
  have e2 : ¬ iI j < 0 := by rw [k_0, iI_lt (by omega) (by omega)]; omega
  have e3 : ¬ iI n < 0 := by rw [k_0, iI_lt (by omega) (by omega)]; omega
  rw [decide_eq_false e1, decide_eq_false e2, decide_eq_false e3, iI_nat (by omega), iI_nat (by omega), iI_nat (by omega), Nat.ble_eq_true_of_le (by omega), Nat.ble_eq_true_of_le (by omega)]
  rfl
def shW (w : WR) : WR := wup (wcp (wcp w 13 6 13 0 90) 14 1 14 0 15) 0 15 15
def kpW (w : WR) (what : Int) : WR := wup (wup (wcp w 3 0 13 (6 * w 0 15) 6) 14 (w 0 15) what) 0 15 (w 0 15 + 1)
def keepW (w : WR) (what : Int) : WR := if w 0 15 = 16 then kpW (shW w) what else kpW w what
theorem e_X0_keeps_50 {D : Nat → Prop} {s : St} {w : WR} {ls : List (List DC)} (hC : C0 D s w ls) (hu : 0 ≤ w 0 15 ∧ w 0 15 < 16) {what : Int} : ∃ s', F_X0_keeps_50 s (iI what) = some ((), s') ∧ C0 D s' (kpW w what) ls ∧ Sm s s' := by
  have hC1 := hC.cpy (a := 3) (b := 13) (i := 0) (j := 6 * w 0 15) (n := 6) (by omega) (by omega) (by omega) (fun k h1 h2 => by show _ < _; omega) (by decide)
  have hC2 := hC1.set 14 (k := w 0 15) (v := what) (by omega) (by decide)
  have hC3 := hC2.set 0 (k := 15) (v := w 0 15 + 1) (by omega) (by decide)
  have e1 := hC1.2.1.undo
  have e2 := hC2.2.1.undo
  have q1 : wcp w 3 0 13 (6 * w 0 15) 6 0 15 = w 0 15 := if_neg (fun z => absurd z.1 (by decide))
  rw [q1] at e1
  rw [wup_n (by decide), q1] at e2
  unfold F_X0_keeps_50 kpW
  rw [hC.2.1.undo, k_0, k_1, k_6, iI_mul, gd_ok (okC_t (by omega) (by omega) (by omega) (by omega) (by omega)), nam_v, iI_nat (by omega), iI_nat (by omega), iI_nat (by omega), e1, inb_g (by omega), nam_v, iI_nat (by omega), e2, iI_add, nam_v]
  exact ⟨_, rfl, hC3, (Sm.cpy (by decide)).tr ((Sm.set (by decide)).tr (Sm.set (by decide)))⟩
theorem e_X0_keeps {D : Nat → Prop} {s : St} {w : WR} {ls : List (List DC)} (hC : C0 D s w ls) (hX : Wx w) {what : Int} : ∃ s', F_X0_keeps s (iI what) = some ((), s') ∧ C0 D s' (keepW w what) ls ∧ Sm s s' := by
  have hu := hX.2.1
  unfold F_X0_keeps keepW
  rw [hC.2.1.undo]
  by_cases h : w 0 15 = 16
  · have hC1 := hC.cpy (a := 13) (b := 13) (i := 6) (j := 0) (n := 90) (by omega) (by omega) (by omega) (fun k h1 h2 => by show _ < _; omega) (by decide)
    have hC2 := hC1.cpy (a := 14) (b := 14) (i := 1) (j := 0) (n := 15) (by omega) (by omega) (by omega) (fun k h1 h2 => by show _ < _; omega) (by decide)
    have hC3 := hC2.set 0 (k := 15) (v := 15) (by omega) (by decide)
    have e2 := hC2.2.1.undo
    have q1 : wcp (wcp w 13 6 13 0 90) 14 1 14 0 15 0 15 = w 0 15 := (if_neg (fun z => absurd z.1 (by decide))).trans (if_neg (fun z => absurd z.1 (by decide)))
    rw [q1, h] at e2
    obtain ⟨s', e, hC4, hS⟩ := e_X0_keeps_50 hC3 (by rw [wup_s]; omega) (what := what)
    refine ⟨s', ?_, by rw [if_pos h]; exact hC4, ((Sm.cpy (by decide)).tr ((Sm.cpy (by decide)).tr (Sm.set (by decide)))).tr hS⟩
    rw [if_pos (by rw [h]; rfl), k_6, k_0, k_90, gd_ok (okC_t (by omega) (by omega) (by omega) (by omega) (by omega)), nam_v, k_1, k_15, gd_ok (okC_t (by omega) (by omega) (by omega) (by omega) (by omega)), nam_v, iI_nat (by omega), iI_nat (by omega), iI_nat (by omega), iI_nat (by omega), iI_nat (by omega), e2, iI_sub, nam_v]
    exact e
  · obtain ⟨s', e, hC4, hS⟩ := e_X0_keeps_50 hC (by omega) (what := what)
    rw [if_neg (by rw [k_16, iI_eq (by omega) (by omega)]; exact h), if_neg h]
    exact ⟨s', e, hC4, hS⟩
noncomputable def goZ (w : WR) (ls : List (List DC)) (c cell : Int) : Int := @ite _ (0 ≤ cell ∧ cell ≤ 35) (Classical.propDecidable _) (@ite _ (isC w c) (Classical.propDecidable _) (@ite _ (canGoP w ls (w 3) c cell) (Classical.propDecidable _) (w 3 c) (-3)) (-2)) (-1)
noncomputable def goW (w : WR) (ls : List (List DC)) (c cell : Int) : WR := if 0 ≤ goZ w ls c cell then wup (keepW w 0) 3 c cell else w
theorem goZ_r {w : WR} {ls : List (List DC)} (hW : Wf w ls) {c cell : Int} : (0 ≤ goZ w ls c cell ∧ goZ w ls c cell ≤ 35 ∧ goZ w ls c cell = w 3 c) ∨ (-6 ≤ goZ w ls c cell ∧ goZ w ls c cell < 0) := by
  unfold goZ
  split
  · split
    · rename_i h
      have h2 : 0 ≤ c ∧ c < w 2 8 := h
      have := hW.cat (c := c) (by omega) (by have := hW.1; omega)
      split <;> omega
    · omega
  · omega
theorem keepW_3 {w : WR} {what k : Int} : keepW w what 3 k = w 3 k := by
  unfold keepW kpW shW
  split
  · rw [wup_n (by decide), wup_n (by decide)]
    refine (if_neg (fun z => absurd z.1 (by decide))).trans ?_
    rw [wup_n (by decide)]
    exact (if_neg (fun z => absurd z.1 (by decide))).trans (if_neg (fun z => absurd z.1 (by decide)))
  · rw [wup_n (by decide), wup_n (by decide)]
    exact if_neg (fun z => absurd z.1 (by decide))
theorem e_X0_goesKept {D : Nat → Prop} {s : St} {w : WR} {ls : List (List DC)} (hC : C0 D s w ls) (hW : Wf w ls) (hX : Wx w) {c cell : Int} (h1 : i32 c) (h2 : i32 cell) : Op D s ls (F_X0_goesKept s (iI c) (iI cell)) (goZ w ls c cell) (goW w ls c cell) := by
  have hm := hW.1
  unfold goW
  unfold goZ
  unfold F_X0_goesKept
  rw [e_X0_isCell s h2, bnd_s, k_m1, k_m2, k_m3, k_0]
  by_cases a1 : 0 ≤ cell ∧ cell ≤ 35
  · rw [if_neg (by rw [bZ_i0]; exact fun z => z a1), if_pos a1, e_X0_isCatcher hC.2.1 hm h1, bnd_s]
    by_cases a2 : isC w c
    · have a3 : 0 ≤ c ∧ c < w 2 8 := a2
      obtain ⟨g, e⟩ := e_X0_canGo hC hW (hC.1.1 3 (by decide)) (hC.2.1.cells hW) (c := c) (cell := cell) (by omega) (by omega)
      rw [if_neg (by rw [bZ_i0]; exact fun z => z a2), if_pos a2, e, bnd_s]
      by_cases a4 : canGoP w ls (w 3) c cell
      · obtain ⟨s', e2, hC2, hS2⟩ := e_X0_keeps (hC.wV (g := g)) hX (what := 0)
        have e3 := hC2.2.1 3 c a3.1 (by show _ < _; omega)
        rw [keepW_3] at e3
        have hk := hW.cat (c := c) (by omega) (by omega)
        rw [if_neg (by rw [bZ_i0]; exact fun z => z a4), if_pos a4, e2, bnd_s, inb_g (by omega), inb_g (by omega), nam_v, iI_nat (by omega), e3, if_pos hk.1.1]
        exact (Op.ret (hC2.set 3 (by omega) (by decide))).after ((Sm.wV.tr hS2).tr (Sm.set (by decide)))
      · rw [if_pos (by rw [bZ_i0]; exact a4), if_neg a4, if_neg (by omega)]
        exact (Op.ret hC.wV).after Sm.wV
    · rw [if_pos (by rw [bZ_i0]; exact a2), if_neg a2, if_neg (by omega)]
      exact Op.ret hC
  · rw [if_pos (by rw [bZ_i0]; exact a1), if_neg a1, if_neg (by omega)]
    exact Op.ret hC
noncomputable def goRW (w : WR) (ls : List (List DC)) (c cell : Int) : WR := if 0 ≤ goZ w ls c cell then wup (goW w ls c cell) 0 0 0 else refW w (goZ w ls c cell)
theorem x_go {D : Nat → Prop} {s : St} {w : WR} {ls : List (List DC)} (hC : C0 D s w ls) (hW : Wf w ls) (hX : Wx w) {c cell : Int} (h1 : i32 c) (h2 : i32 cell) : Op D s ls (F_X0_go s (iI c) (iI cell)) (goZ w ls c cell) (goRW w ls c cell) := by
  obtain ⟨s1, e, hC1, hS1⟩ := e_X0_goesKept hC hW hX h1 h2
  unfold F_X0_go goRW
  rw [e, bnd_s, k_0]
  rcases goZ_r hW (c := c) (cell := cell) with h | h
  · rw [if_pos (by rw [iI_le (by omega) (by omega)]; exact h.1), if_pos h.1]
    exact (Op.done hC1 _).bnd.after hS1
  · unfold goW at hC1
    rw [if_neg (by omega)] at hC1
    rw [if_neg (by rw [iI_le (by omega) (by omega)]; omega), if_neg (by omega)]
    exact (Op.refuse hC1 h).bnd.after hS1
noncomputable def undoV (w : WR) : Int := if w 0 15 = 0 then -3 else w 14 (w 0 15 - 1)
def undoW1 (w : WR) : WR := wcp (wup w 0 15 (w 0 15 - 1)) 13 (6 * (w 0 15 - 1)) 3 0 6
noncomputable def undoW (w : WR) : WR := if w 0 15 = 0 then refW w (-3) else wup (undoW1 w) 0 0 0
theorem x_undo {D : Nat → Prop} {s : St} {w : WR} {ls : List (List DC)} (hC : C0 D s w ls) (hX : Wx w) : Op D s ls (F_X0_undo s) (undoV w) (undoW w) := by
  have hu := hX.2.1
  unfold F_X0_undo undoV undoW
  rw [hC.2.1.undo, k_m3, k_0, k_1, k_6]
  by_cases h : w 0 15 = 0
  · rw [if_pos (by rw [h]), if_pos h, if_pos h]
    exact (Op.refuse hC (by omega)).bnd
  · have hC1 := hC.set 0 (k := 15) (v := w 0 15 - 1) (by omega) (by decide)
    have e1 : si (setI s 0 15 (iI (w 0 15 - 1))) 0 15 = iI (w 0 15 - 1) := by
      have := hC1.2.1.undo
      rw [wup_s] at this
      exact this
    have hC2 := hC1.cpy (a := 13) (b := 3) (i := 6 * (w 0 15 - 1)) (j := 0) (n := 6) (by omega) (by omega) (by omega) (fun k h1 h2 => by show _ < _; omega) (by decide)
    have e2 := hC2.2.1.undo
    have q1 : wcp (wup w 0 15 (w 0 15 - 1)) 13 (6 * (w 0 15 - 1)) 3 0 6 0 15 = w 0 15 - 1 := (if_neg (fun z => absurd z.1 (by decide))).trans wup_s
    rw [q1] at e2
    have e3 := hC2.2.1 14 (w 0 15 - 1) (by omega) (by show _ < _; omega)
    have q2 : wcp (wup w 0 15 (w 0 15 - 1)) 13 (6 * (w 0 15 - 1)) 3 0 6 14 (w 0 15 - 1) = w 14 (w 0 15 - 1) := (if_neg (fun z => absurd z.1 (by decide))).trans (wup_n (by decide))
    rw [q2] at e3
    rw [if_neg (by rw [iI_eq (by omega) (by omega)]; exact h), if_neg h, if_neg h, iI_sub, nam_v]
    rw [e1, iI_mul, gd_ok (okC_t (by omega) (by omega) (by omega) (by omega) (by omega)), nam_v, iI_nat (by omega), iI_nat (by omega), iI_nat (by omega)]
    show Op D s ls (gd (inb (si (cpyI (setI s 0 (15 : Int).toNat _) _ _ _ _ _) 0 15) 16) (bnd (F_X0_done (cpyI (setI s 0 (15 : Int).toNat _) _ _ _ _ _) (si (cpyI (setI s 0 (15 : Int).toNat _) _ _ _ _ _) 14 (si (cpyI (setI s 0 (15 : Int).toNat _) _ _ _ _ _) 0 15).toNatClampNeg)) _)) _ _
    rw [e2, inb_g (by omega), iI_nat (by omega), e3]
    exact (Op.done hC2 _).bnd.after ((Sm.set (by decide)).tr (Sm.cpy (by decide)))
