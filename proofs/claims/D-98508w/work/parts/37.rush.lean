set_option maxRecDepth 100000
/-! ===== the component: rushes ===== -/
def sgnZ (z : Int) : Int := if z < 0 then -1 else if 0 < z then 1 else 0
theorem e_J13_signum (s : St) {z : Int} (h : -5 ≤ z ∧ z ≤ 5) : F_J13_signum s (iI z) = some (iI (sgnZ z), s) := by
  have hz : z = -5 ∨ z = -4 ∨ z = -3 ∨ z = -2 ∨ z = -1 ∨ z = 0 ∨ z = 1 ∨ z = 2 ∨ z = 3 ∨ z = 4 ∨ z = 5 := by omega
  unfold F_J13_signum
  congr 2
  rcases hz with rfl | rfl | rfl | rfl | rfl | rfl | rfl | rfl | rfl | rfl | rfl <;> decide
def asideZ (w : WR) (c : Int) : Int := sgnZ (w 7 c % 6 - w 3 c % 6)
def onZ (w : WR) (c : Int) : Int := sgnZ (w 7 c / 6 - w 3 c / 6)
noncomputable def stepZ (w : WR) (ls : List (List DC)) (c : Int) : Int :=
  @ite _ (asideZ w c ≠ 0 ∧ canGoP w ls (w 3) c (w 3 c + asideZ w c)) (Classical.propDecidable _) (w 3 c + asideZ w c)
    (@ite _ (onZ w c ≠ 0 ∧ canGoP w ls (w 3) c (w 3 c + 6 * onZ w c)) (Classical.propDecidable _) (w 3 c + 6 * onZ w c) (w 3 c))
theorem stepZ_r {w : WR} {ls : List (List DC)} {c : Int} (h1 : 0 ≤ w 3 c ∧ w 3 c ≤ 35) (h2 : 0 ≤ w 7 c ∧ w 7 c ≤ 35) : 0 ≤ stepZ w ls c ∧ stepZ w ls c ≤ 35 ∧ (0 ≤ w 3 c + asideZ w c ∧ w 3 c + asideZ w c ≤ 35) ∧ (0 ≤ w 3 c + 6 * onZ w c ∧ w 3 c + 6 * onZ w c ≤ 35) ∧ (-1 ≤ asideZ w c ∧ asideZ w c ≤ 1) ∧ (-1 ≤ onZ w c ∧ onZ w c ≤ 1) := by
  have ha : (-1 ≤ asideZ w c ∧ asideZ w c ≤ 1) ∧ 0 ≤ w 3 c + asideZ w c ∧ w 3 c + asideZ w c ≤ 35 := by
    unfold asideZ sgnZ
    omega
  have ho : (-1 ≤ onZ w c ∧ onZ w c ≤ 1) ∧ 0 ≤ w 3 c + 6 * onZ w c ∧ w 3 c + 6 * onZ w c ≤ 35 := by
    unfold onZ sgnZ
    omega
  unfold stepZ
  refine ⟨?_, ?_, ha.2, ho.2, ha.1, ho.1⟩
  · split
    · omega
    · split <;> omega
  · split
    · omega
    · split <;> omega
noncomputable def stW (w : WR) (ls : List (List DC)) (c : Int) : WR := if stepZ w ls c = w 3 c then w else wup w 3 c (stepZ w ls c)
theorem wup_same {w : WR} {r : Nat} {k : Int} : wup w r k (w r k) = w := by
  funext r' k'
  unfold wup
  split
  · rename_i h
    rw [h.1, h.2]
  · rfl
theorem e_X0_steps_131 {D : Nat → Prop} {s : St} {w : WR} {ls : List (List DC)} (hC : C0 D s w ls) {c z : Int} (hc : 0 ≤ c ∧ c < 6) (hz : 0 ≤ z ∧ z ≤ 35) (hw : 0 ≤ w 3 c ∧ w 3 c ≤ 35) : Op D s ls (F_X0_steps_131 s (iI c) (iI z)) (bZ (w 3 c ≠ z)) w := by
  unfold F_X0_steps_131
  rw [inb_g (by omega), iI_nat (by omega), hC.2.1 3 c hc.1 hc.2, k_0, k_1]
  by_cases h : w 3 c = z
  · rw [if_pos (by rw [h]), bZ_f (fun y => y h)]
    exact Op.ret hC
  · rw [if_neg (by rw [iI_eq (by omega) (by omega)]; exact h), bZ_t h]
    exact Op.ret hC
theorem e_X0_steps {D : Nat → Prop} {s : St} {w : WR} {ls : List (List DC)} (hC : C0 D s w ls) (hW : Wf w ls) {c : Int} (hc : 0 ≤ c ∧ c < 6) (hb : 0 ≤ w 7 c) : Op D s ls (F_X0_steps s (iI c)) (bZ (stepZ w ls c ≠ w 3 c)) (stW w ls c) := by
  have hk := hW.cat hc.1 hc.2
  have hr := stepZ_r (ls := ls) hk.1 (by omega)
  have h88 : ∀ g, (asideZ w c ≠ 0 ∧ canGoP w ls (w 3) c (w 3 c + asideZ w c) → False) → Op D (wV s g) ls (F_X0_steps_88 (wV s g) (iI c) (iI (w 3 c)) (iI (onZ w c))) (bZ (stepZ w ls c ≠ w 3 c)) (stW w ls c) := by
    intro g hno
    have hC1 : C0 D (wV s g) w ls := hC.wV
    unfold F_X0_steps_88
    rw [k_0, k_6, iI_mul, iI_add]
    by_cases a1 : onZ w c = 0
    · have e : stepZ w ls c = w 3 c := by
        unfold stepZ
        rw [if_neg hno, if_neg (fun z => z.1 a1)]
      unfold stW
      rw [if_pos (by rw [a1]), e, if_pos rfl]
      exact e_X0_steps_131 hC1 hc hk.1 hk.1
    · rw [if_neg (by rw [iI_eq (by omega) (by omega)]; exact a1)]
      obtain ⟨g2, e2⟩ := e_X0_canGo hC1 hW (hC1.1.1 3 (by decide)) (hC1.2.1.cells hW) (c := c) (cell := w 3 c + 6 * onZ w c) hc (by omega)
      rw [e2, bnd_s]
      by_cases a2 : canGoP w ls (w 3) c (w 3 c + 6 * onZ w c)
      · have e : stepZ w ls c = w 3 c + 6 * onZ w c := by
          unfold stepZ
          rw [if_neg hno, if_pos ⟨a1, a2⟩]
        have hC2 := hC1.wV (g := g2)
        have hC3 := hC2.set 3 (k := c) (v := w 3 c + 6 * onZ w c) hc.1 (by decide)
        unfold stW
        rw [if_neg (by rw [bZ_i0]; exact fun z => z a2), inb_g (by omega), nam_v, iI_nat (by omega), e, if_neg (by omega)]
        have := e_X0_steps_131 hC3 hc hk.1 (by rw [wup_s]; omega)
        rw [wup_s] at this
        exact this.after (Sm.wV.tr (Sm.set (by decide)))
      · have e : stepZ w ls c = w 3 c := by
          unfold stepZ
          rw [if_neg hno, if_neg (fun z => a2 z.2)]
        unfold stW
        rw [if_pos (by rw [bZ_i0]; exact a2), e, if_pos rfl]
        exact (e_X0_steps_131 (hC1.wV (g := g2)) hc hk.1 hk.1).after Sm.wV
  unfold F_X0_steps
  rw [inb_g (by omega), inb_g (by omega), iI_nat (by omega), hC.2.1 3 c hc.1 hc.2, hC.2.1 7 c hc.1 hc.2, k_6, iI_remn (by omega) (by omega), iI_remn (by omega) (by omega), iI_divn (by omega) (by omega), iI_divn (by omega) (by omega), iI_sub, iI_sub, e_J13_signum s (by omega), bnd_s, gp_SkC hC.1, e_J13_signum s (by omega), bnd_s, gp_SkC hC.1, k_0]
  show Op D s ls (if iI (asideZ w c) = iI 0 then F_X0_steps_88 s (iI c) (iI (w 3 c)) (iI (onZ w c)) else bnd (F_X0_canGo s (some 3) (iI c) (iI (w 3 c) + iI (asideZ w c))) _) _ _
  by_cases a1 : asideZ w c = 0
  · rw [if_pos (by rw [a1])]
    have := h88 (sl s 22) (fun z => z.1 a1)
    rw [wV_same] at this
    exact this
  · obtain ⟨g2, e2⟩ := e_X0_canGo hC hW (hC.1.1 3 (by decide)) (hC.2.1.cells hW) (c := c) (cell := w 3 c + asideZ w c) hc (by omega)
    rw [if_neg (by rw [iI_eq (by omega) (by omega)]; exact a1), iI_add, e2, bnd_s]
    by_cases a2 : canGoP w ls (w 3) c (w 3 c + asideZ w c)
    · have e : stepZ w ls c = w 3 c + asideZ w c := by
        unfold stepZ
        rw [if_pos ⟨a1, a2⟩]
      have hC2 := hC.wV (g := g2)
      have hC3 := hC2.set 3 (k := c) (v := w 3 c + asideZ w c) hc.1 (by decide)
      unfold stW
      rw [if_neg (by rw [bZ_i0]; exact fun z => z a2), inb_g (by omega), nam_v, e, if_neg (by omega)]
      have := e_X0_steps_131 hC3 hc hk.1 (by rw [wup_s]; omega)
      rw [wup_s] at this
      rw [iI_add]
      exact this.after (Sm.wV.tr (Sm.set (by decide)))
    · rw [if_pos (by rw [bZ_i0]; exact a2)]
      exact (h88 g2 (fun z => a2 z.2)).after Sm.wV
/-- the rush, from the catcher c on, n of them -/
noncomputable def rushF (ls : List (List DC)) : Nat → Int → WR → Int → Int × WR
  | 0, _, w, k => (k, w)
  | n + 1, c, w, k => if w 7 c = -1 then rushF ls n (c + 1) w k else rushF ls n (c + 1) (stW w ls c) (k + (if stepZ w ls c = w 3 c then 0 else 1))
theorem Wf.cell {w : WR} {ls : List (List DC)} (h : Wf w ls) {c v : Int} (hv : 0 ≤ v ∧ v ≤ 35) : Wf (wup w 3 c v) ls := by
  obtain ⟨h1, h2, h3, h4, h5, h6, h7⟩ := h
  refine ⟨h1, h2, h3, h4, fun k k0 k6 => ?_, h6, h7⟩
  have := h5 k k0 k6
  refine ⟨?_, this.2⟩
  unfold wup
  split
  · exact hv
  · exact this.1
theorem stW_ok {w : WR} {ls : List (List DC)} (hW : Wf w ls) {c : Int} (hc : 0 ≤ c ∧ c < 6) (hb : 0 ≤ w 7 c) : Wf (stW w ls c) ls ∧ (∀ r k, r ≠ 3 → stW w ls c r k = w r k) := by
  have hk := hW.cat hc.1 hc.2
  have hr := stepZ_r (ls := ls) hk.1 (by omega)
  unfold stW
  split
  · exact ⟨hW, fun _ _ _ => rfl⟩
  · exact ⟨hW.cell ⟨hr.1, hr.2.1⟩, fun r k h => wup_n h⟩
theorem e_X0_rushesKept_22 {D : Nat → Prop} {ls : List (List DC)} {m : Int} (hm : 0 ≤ m ∧ m ≤ 6) : ∀ (n : Nat) (c : Int) (s : St) (w : WR) (k : Int), C0 D s w ls → Wf w ls → w 2 8 = m → 0 ≤ c → m = n + c → (0 ≤ k ∧ k ≤ c) → ∀ fu, n < fu → Op D s ls (F_X0_rushesKept_22 fu s (iI k) (iI c)) (rushF ls n c w k).1 (rushF ls n c w k).2 ∧ 0 ≤ (rushF ls n c w k).1 ∧ (rushF ls n c w k).1 ≤ m ∧ Wf (rushF ls n c w k).2 ls ∧ ∀ r j, r ≠ 3 → (rushF ls n c w k).2 r j = w r j := by
  intro n
  induction n with
  | zero =>
    intro c s w k hC hW hw h0 hn hk fu hfu
    obtain ⟨g, rfl⟩ : ∃ g, fu = g + 1 := ⟨fu - 1, by omega⟩
    refine ⟨?_, hk.1, by show k ≤ m; omega, hW, fun _ _ _ => rfl⟩
    simp only [F_X0_rushesKept_22]
    rw [hC.2.1.many, hw, if_pos (by rw [iI_le (by omega) (by omega)]; omega)]
    exact Op.ret hC
  | succ n ih =>
    intro c s w k hC hW hw h0 hn hk fu hfu
    obtain ⟨g, rfl⟩ : ∃ g, fu = g + 1 := ⟨fu - 1, by omega⟩
    have hcat := hW.cat (c := c) h0 (by omega)
    simp only [F_X0_rushesKept_22, F_X0_rushesKept_59]
    rw [hC.2.1.many, hw, if_neg (by rw [iI_le (by omega) (by omega)]; omega), inb_g (by omega), iI_nat (by omega), hC.2.1 7 c h0 (by show _ < _; omega), k_m1, k_0, k_1, iI_add, iI_add, iI_add, rushF]
    by_cases a1 : w 7 c = -1
    · rw [if_pos (by rw [a1]), if_pos a1, Int.add_zero]
      exact ih (c + 1) s w k hC hW hw (by omega) (by omega) (by omega) g (by omega)
    · obtain ⟨s1, e, hC1, hS1⟩ := e_X0_steps hC hW (c := c) (by omega) (by omega)
      have hok := stW_ok hW (ls := ls) (c := c) (by omega) (by omega)
      rw [if_neg (by rw [iI_eq (by omega) (by omega)]; exact a1), if_neg a1, e, bnd_s]
      by_cases a2 : stepZ w ls c = w 3 c
      · rw [if_pos (by rw [bZ_i0]; exact fun z => z a2), if_pos a2]
        obtain ⟨q1, q2, q3, q4, q5⟩ := ih (c + 1) s1 _ (k + 0) hC1 hok.1 (by rw [hok.2 _ _ (by decide)]; exact hw) (by omega) (by omega) (by omega) g (by omega)
        exact ⟨q1.after hS1, q2, q3, q4, fun r j hr => (q5 r j hr).trans (hok.2 r j hr)⟩
      · rw [if_neg (by rw [bZ_i0]; exact fun z => z a2), if_neg a2]
        obtain ⟨q1, q2, q3, q4, q5⟩ := ih (c + 1) s1 _ (k + 1) hC1 hok.1 (by rw [hok.2 _ _ (by decide)]; exact hw) (by omega) (by omega) (by omega) g (by omega)
        exact ⟨q1.after hS1, q2, q3, q4, fun r j hr => (q5 r j hr).trans (hok.2 r j hr)⟩
theorem keepW_o {w : WR} {what k : Int} {r : Nat} (h : r ≠ 0 ∧ r ≠ 13 ∧ r ≠ 14) : keepW w what r k = w r k := by
  unfold keepW kpW shW
  split
  · rw [wup_n h.1, wup_n h.2.2]
    refine (if_neg (fun z => h.2.1 z.1)).trans ?_
    rw [wup_n h.1]
    exact (if_neg (fun z => h.2.2 z.1)).trans (if_neg (fun z => h.2.1 z.1))
  · rw [wup_n h.1, wup_n h.2.2]
    exact if_neg (fun z => h.2.1 z.1)
theorem Wf.same {w w' : WR} {ls : List (List DC)} (h : Wf w ls) (e : ∀ r k, (r = 2 ∨ (3 ≤ r ∧ r ≤ 9)) → w' r k = w r k) : Wf w' ls := by
  obtain ⟨h1, h2, h3, h4, h5, h6, h7⟩ := h
  unfold Wf
  simp only [e 2 _ (Or.inl rfl), e 3 _ (by omega), e 4 _ (by omega), e 5 _ (by omega), e 6 _ (by omega), e 7 _ (by omega), e 8 _ (by omega), e 9 _ (by omega)]
  exact ⟨h1, h2, h3, h4, h5, h6, h7⟩
theorem Wf.keep {w : WR} {ls : List (List DC)} (h : Wf w ls) {what : Int} : Wf (keepW w what) ls := h.same fun r k hr => keepW_o (by omega)
noncomputable def rushZ (w : WR) (ls : List (List DC)) : Int := if w 2 8 = 0 then -3 else (rushF ls (w 2 8).toNat 0 (keepW w 1) 0).1
noncomputable def rushW (w : WR) (ls : List (List DC)) : WR := if w 2 8 = 0 then w else (rushF ls (w 2 8).toNat 0 (keepW w 1) 0).2
theorem e_X0_rushesKept {D : Nat → Prop} {s : St} {w : WR} {ls : List (List DC)} (hC : C0 D s w ls) (hW : Wf w ls) (hX : Wx w) : Op D s ls (F_X0_rushesKept s) (rushZ w ls) (rushW w ls) ∧ (w 2 8 = 0 ∨ (0 ≤ rushZ w ls ∧ rushZ w ls ≤ 6)) := by
  have hm := hW.1
  unfold F_X0_rushesKept rushZ rushW
  rw [hC.2.1.many, k_0, k_1, k_m3]
  by_cases h : w 2 8 = 0
  · rw [if_pos (by rw [h]), if_pos h, if_pos h]
    exact ⟨Op.ret hC, Or.inl h⟩
  · obtain ⟨s1, e, hC1, hS1⟩ := e_X0_keeps hC hX (what := 1)
    obtain ⟨q1, q2, q3, q4, q5⟩ := e_X0_rushesKept_22 (D := D) (ls := ls) hm (w 2 8).toNat 0 s1 (keepW w 1) 0 hC1 hW.keep (keepW_o (by decide)) (by omega) (by omega) (by omega) FU (FU_ge (by omega))
    rw [if_neg (by rw [iI_eq (by omega) (by omega)]; exact h), if_neg h, if_neg h, e, bnd_s]
    exact ⟨q1.after hS1, Or.inr ⟨q2, by omega⟩⟩
noncomputable def rushRW (w : WR) (ls : List (List DC)) : WR := if 0 ≤ rushZ w ls then wup (rushW w ls) 0 0 0 else refW w (rushZ w ls)
theorem x_rush {D : Nat → Prop} {s : St} {w : WR} {ls : List (List DC)} (hC : C0 D s w ls) (hW : Wf w ls) (hX : Wx w) : Op D s ls (F_X0_rush s) (rushZ w ls) (rushRW w ls) := by
  obtain ⟨⟨s1, e, hC1, hS1⟩, hr⟩ := e_X0_rushesKept hC hW hX
  unfold F_X0_rush rushRW
  rw [e, bnd_s, k_0]
  by_cases h : w 2 8 = 0
  · have hz : rushZ w ls = -3 := if_pos h
    have hw : rushW w ls = w := if_pos h
    rw [hw] at hC1
    rw [hz] at *
    rw [if_neg (by decide), if_neg (by omega)]
    exact (Op.refuse hC1 (by omega)).bnd.after hS1
  · have hr := hr.resolve_left h
    rw [if_pos (by rw [iI_le (by omega) (by omega)]; exact hr.1), if_pos hr.1]
    exact (Op.done hC1 _).bnd.after hS1
