set_option maxRecDepth 100000
/-! ===== the component's call orders ===== -/
noncomputable def vOrd (w : WR) (d r : Int) : Nat → Int := fun k =>
  if k = 0 then w 2 8 else if k = 1 then d else if k = 2 then r else if k < 9 then (if (k : Int) - 3 < w 2 8 then w 3 (k - 3) else -1) else if k < 15 then (if (k : Int) - 9 < w 2 8 then w 7 (k - 9) else -1) else -1
theorem vOrd_ok {w : WR} {ls : List (List DC)} (hW : Wf w ls) {d r : Int} (hd : 0 ≤ d ∧ d ≤ 1000) (hr : -1 ≤ r ∧ r ≤ 1000) : vok (vOrd w d r) := by
  intro k
  have hm := hW.1
  unfold vOrd
  by_cases k0 : k = 0
  · rw [if_pos k0]; omega
  · rw [if_neg k0]
    by_cases k1 : k = 1
    · rw [if_pos k1]; omega
    · rw [if_neg k1]
      by_cases k2 : k = 2
      · rw [if_pos k2]; omega
      · rw [if_neg k2]
        by_cases k9 : k < 9
        · rw [if_pos k9]
          have := hW.cat (c := (k : Int) - 3) (by omega) (by omega)
          split <;> omega
        · rw [if_neg k9]
          by_cases k15 : k < 15
          · rw [if_pos k15]
            have := hW.cat (c := (k : Int) - 9) (by omega) (by omega)
            split <;> omega
          · rw [if_neg k15]; omega
theorem e_X0_tells_32 {D : Nat → Prop} {w : WR} {ls : List (List DC)} (hW : Wf w ls) {d r : Int} : ∀ (j c : Nat) (s : St) (g : Nat → Int64), C0 D s w ls → 6 = j + c → (∀ k, k < 15 → (k < 3 ∨ (3 ≤ k ∧ k < 3 + c) ∨ (9 ≤ k ∧ k < 9 + c)) → g k = lI (vOrd w d r k)) → ∀ fu, j < fu → ∃ g', F_X0_tellsOrder_32 fu (wV s g) (iI c) = some ((), wV s g') ∧ ∀ k, k < 15 → g' k = lI (vOrd w d r k) := by
  have hm := hW.1
  intro j
  induction j with
  | zero =>
    intro c s g hC hj hg fu hfu
    obtain ⟨fu, rfl⟩ : ∃ g, fu = g + 1 := ⟨fu - 1, by omega⟩
    refine ⟨g, ?_, fun k hk => hg k hk (by omega)⟩
    rw [F_X0_tellsOrder_32]
    show (if (6 : Int32) ≤ iI c then _ else _) = _
    rw [k_6, if_pos (by rw [iI_le (by omega) (by omega)]; omega)]
  | succ j ih =>
    intro c s g hC hj hg fu hfu
    obtain ⟨fu, rfl⟩ : ∃ g, fu = g + 1 := ⟨fu - 1, by omega⟩
    have hcat := hW.cat (c := (c : Int)) (by omega) (by omega)
    have e3 : vOrd w d r (3 + c) = if (c : Int) < w 2 8 then w 3 c else -1 := by
      unfold vOrd
      rw [if_neg (by omega), if_neg (by omega), if_neg (by omega), if_pos (by omega), show ((3 + c : Nat) : Int) - 3 = c by omega]
    have e9 : vOrd w d r (9 + c) = if (c : Int) < w 2 8 then w 7 c else -1 := by
      unfold vOrd
      rw [if_neg (by omega), if_neg (by omega), if_neg (by omega), if_neg (by omega), if_pos (by omega), show ((9 + c : Nat) : Int) - 9 = c by omega]
    have nx : ∃ g', F_X0_tellsOrder_32 fu (wV s (up1 (up1 g (3 + c) (lI (vOrd w d r (3 + c)))) (9 + c) (lI (vOrd w d r (9 + c))))) (iI ((c + 1 : Nat) : Int)) = some ((), wV s g') ∧ ∀ k, k < 15 → g' k = lI (vOrd w d r k) := ih (c + 1) s _ hC (by omega) (fun k hk hc => by
      unfold up1
      by_cases e : k = 9 + c
      · rw [if_pos e, e]
      · rw [if_neg e]
        by_cases e' : k = 3 + c
        · rw [if_pos e', e']
        · rw [if_neg e']
          exact hg k hk (by omega)) fu (by omega)
    obtain ⟨g', en, hg'⟩ := nx
    refine ⟨g', ?_, hg'⟩
    rw [← en]
    rw [F_X0_tellsOrder_32]
    show (if (6 : Int32) ≤ iI c then _ else _) = _
    have isC1 : ∀ g, F_X0_isCatcher (wV s g) (iI c) = some (iI (bZ (0 ≤ (c : Int) ∧ (c : Int) < w 2 8)), wV s g) := fun g => e_X0_isCatcher (hC.wV (g := g)).2.1 hm (by omega)
    have t70 : ∀ (z : Int), z = vOrd w d r (3 + c) → F_X0_tellsOrder_70 (F_X0_tellsOrder_32 fu) (wV s g) (iI c) (lI z) (iI (3 + c)) = F_X0_tellsOrder_32 fu (wV s (up1 (up1 g (3 + c) (lI (vOrd w d r (3 + c)))) (9 + c) (lI (vOrd w d r (9 + c))))) (iI ((c + 1 : Nat) : Int)) := fun z hz => by
      have t103 : ∀ (g : Nat → Int64) (y : Int), y = vOrd w d r (9 + c) → F_X0_tellsOrder_103 (F_X0_tellsOrder_32 fu) (wV s g) (iI c) (lI y) (iI (9 + c)) = F_X0_tellsOrder_32 fu (wV s (up1 g (9 + c) (lI (vOrd w d r (9 + c))))) (iI ((c + 1 : Nat) : Int)) := fun g y hy => by
        unfold F_X0_tellsOrder_103
        rw [inb_g (by show 0 ≤ (9 : Int) + c ∧ (9 : Int) + c < (15 : Nat) ∧ _; omega), nam_v, iI_nat (by omega), show ((9 : Int) + c).toNat = 9 + c by omega, setL_22, wV_wV, wV_l, hy, k_1, iI_add]
        rfl
      unfold F_X0_tellsOrder_70
      rw [inb_g (by show 0 ≤ (3 : Int) + c ∧ (3 : Int) + c < (15 : Nat) ∧ _; omega), nam_v, iI_nat (by omega), show ((3 : Int) + c).toNat = 3 + c by omega, setL_22, wV_wV, wV_l, hz, isC1, bnd_s, K_m1, k_0, k_9, iI_add]
      by_cases a : (c : Int) < w 2 8
      · rw [if_neg (by rw [bZ_i0]; omega), inb_g (by omega), iI_nat (by omega), Int.toNat_natCast, show si (wV s (up1 g (3 + c) (lI (vOrd w d r (3 + c))))) 7 c = iI (w 7 c) from by
          have := hC.2.1 7 (c : Int) (by omega) (by show (c : Int) < 6; omega)
          rw [Int.toNat_natCast] at this
          exact this, iI_l (by omega)]
        exact t103 _ _ (by rw [e9, if_pos a])
      · rw [if_pos (by rw [bZ_i0]; omega)]
        exact t103 _ _ (by rw [e9, if_neg a])
    rw [k_6, if_neg (by rw [iI_le (by omega) (by omega)]; omega), isC1, bnd_s, K_m1, k_0, k_3, iI_add]
    by_cases a : (c : Int) < w 2 8
    · rw [if_neg (by rw [bZ_i0]; omega), inb_g (by omega), iI_nat (by omega), Int.toNat_natCast, show si (wV s g) 3 c = iI (w 3 c) from by
        have := hC.2.1 3 (c : Int) (by omega) (by show (c : Int) < 6; omega)
        rw [Int.toNat_natCast] at this
        exact this, iI_l (by omega)]
      exact t70 _ (by rw [e3, if_pos a])
    · rw [if_pos (by rw [bZ_i0]; omega)]
      exact t70 _ (by rw [e3, if_neg a])
theorem e_X0_tellsOrder {D : Nat → Prop} {s : St} {w : WR} {ls : List (List DC)} (hC : C0 D s w ls) (hW : Wf w ls) {d r : Int} (hd : 0 ≤ d ∧ d ≤ 1000) (hr : -1 ≤ r ∧ r ≤ 1000) : ∃ g, F_X0_tellsOrder s (iI d) (iI r) = some ((), wV s g) ∧ VOK (wV s g) (vOrd w d r) := by
  have hm := hW.1
  obtain ⟨g, e, hg⟩ := e_X0_tells_32 hW (d := d) (r := r) 6 0 s (up1 (up1 (up1 (sl s 22) 0 (lI (w 2 8))) 1 (lI d)) 2 (lI r)) hC (by omega) (fun k hk hc => by
    have hk3 : k = 0 ∨ k = 1 ∨ k = 2 := by omega
    rcases hk3 with rfl | rfl | rfl <;> rfl) FU (FU_ge (by omega))
  refine ⟨g, ?_, vOrd_ok hW hd hr, hg⟩
  unfold F_X0_tellsOrder
  rw [k_0, k_1, k_2, inb_g (by omega), nam_v, inb_g (by omega), nam_v, inb_g (by omega), nam_v, iI_nat (by omega), iI_nat (by omega), iI_nat (by omega), hC.2.1.many, iI_l (by omega), iI_l (by omega), iI_l (by omega), setL_22, setL_22, setL_22, wV_wV, wV_wV]
  exact e
/-- whether an order is now -/
def nowP (ot : Option DT) (v : Nat → Int) : Prop := ∀ t, ot = some t → t v = some true
theorem e_X18_isNow {s : St} {a : Nat} {c : OC} (h : OrdE s a c) {v : Nat → Int} (hv : VOK s v) : F_X18_isNow s a (some 20) = some (iI (bZ (nowP c.2.2.2 v)), s) := by
  obtain ⟨h1, -, -, -, h5, h6⟩ := h
  unfold F_X18_isNow F_X18_isNow_18
  rw [isK_g h1, k_1]
  cases e : c.2.2.2 with
  | none =>
    rw [if_pos (h5 e), bZ_t (show nowP none v from fun t ht => by cases ht)]
  | some t =>
    obtain ⟨b, h7, h8⟩ := h6 t e
    rw [if_neg (by rw [h7]; simp), isK_g h1, h7, drf_s, h8 40 (Nat.le_refl _) v hv]
    cases et : t v with
    | none =>
      rw [bZ_f (show ¬ nowP (some t) v from fun z => by have := z t rfl; rw [et] at this; cases this)]
      rfl
    | some x =>
      cases x
      · rw [bZ_f (show ¬ nowP (some t) v from fun z => by have := z t rfl; rw [et] at this; cases this)]
        show bnx (some (.inl (iI 0), s)) _ _ = _
        rw [bnx_il]
        rfl
      · rw [bZ_t (show nowP (some t) v from fun t' ht' => by cases ht'; exact et)]
        show bnx (some (.inl (iI 1), s)) _ _ = _
        rw [bnx_il, if_neg (by decide)]
def toldO (f : DS) (v : Nat → Int) : Int := match f v with
  | none => 1000000
  | some z => if z < -1 ∨ 1000000 ≤ z then 1000000 else z
theorem toldO_r {f : DS} {v : Nat → Int} : -1 ≤ toldO f v ∧ toldO f v ≤ 1000000 := by
  unfold toldO
  split
  · decide
  · split <;> omega
theorem e_X18_told {s : St} {b : Nat} {f : DS} (h : SumE s b 64 f) (hf : dok f) {v : Nat → Int} (hv : VOK s v) : F_X18_told s (some b) (some 20) = some (iI (toldO f v), s) := by
  unfold F_X18_told F_X18_told_22 toldO
  rw [drf_s, h 64 (Nat.le_refl _) v hv]
  cases e : f v with
  | none => rfl
  | some z =>
    have hz := hf v hv.1 z e
    show bnx (some (.inl (lI z), s)) _ _ = _
    rw [bnx_il, K_m1, K_1000000, k_1000000]
    by_cases a : z < -1
    · rw [if_pos (by rw [lI_lt (by omega) (by omega)]; exact a)]
      show _ = some (iI (if z < -1 ∨ 1000000 ≤ z then 1000000 else z), s)
      rw [if_pos (Or.inl a)]
    · rw [if_neg (by rw [lI_lt (by omega) (by omega)]; exact a)]
      show _ = some (iI (if z < -1 ∨ 1000000 ≤ z then 1000000 else z), s)
      by_cases b : z < 1000000
      · rw [if_pos (by rw [lI_lt (by omega) (by omega)]; exact b), if_neg (by omega), lI_i (by omega)]
      · rw [if_neg (by rw [lI_lt (by omega) (by omega)]; exact b), if_pos (by omega)]
noncomputable def runV (w : WR) (ls : List (List DC)) (c : OC) (v : Nat → Int) : Int := match c.2.1 with
  | none => rushZ w ls
  | some q => if c.1 = 0 then goZ w ls (toldO q.1 v) (toldO q.2 v) else belZ w (toldO q.1 v) (toldO q.2 v)
noncomputable def runW (w : WR) (ls : List (List DC)) (c : OC) (v : Nat → Int) : WR := match c.2.1 with
  | none => rushW w ls
  | some q => if c.1 = 0 then goW w ls (toldO q.1 v) (toldO q.2 v) else belW w (toldO q.1 v) (toldO q.2 v)
theorem e_X0_runs {D : Nat → Prop} {s : St} {w : WR} {ls : List (List DC)} (hC : C0 D s w ls) (hW : Wf w ls) (hX : Wx w) {a : Nat} {c : OC} (h : OrdE s a c) {v : Nat → Int} (hv : VOK s v) : Op D s ls (F_X0_runs s (some a)) (runV w ls c v) (runW w ls c v) := by
  obtain ⟨h1, h2, h3, ⟨h4, h5⟩, -⟩ := h
  unfold F_X0_runs runV runW
  rw [drf_s, isK_g h1, h2.1, k_1, k_0]
  cases e : c.2.1 with
  | none =>
    rw [if_pos (by rw [h4 e])]
    exact (e_X0_rushesKept hC hW hX).1.bnd
  | some q =>
    obtain ⟨g1, g2, b, d, g3, g4, g5⟩ := h5 q e
    have r1 := toldO_r (f := q.1) (v := v)
    have r2 := toldO_r (f := q.2) (v := v)
    rw [if_neg (by rw [iI_eq (by omega) (by omega)]; exact g1), drf_s, isK_g h1, g3.1, e_X18_told g4 g2.1 hv, bnd_s, gp_SkC hC.1, drf_s, isK_g h1, g3.2, e_X18_told g5 g2.2 hv, bnd_s, gp_SkC hC.1, drf_s, isK_g h1, h2.1]
    show Op D s ls (if iI c.1 = iI 0 then _ else _) (if c.1 = 0 then goZ w ls (toldO q.1 v) (toldO q.2 v) else belZ w (toldO q.1 v) (toldO q.2 v)) (if c.1 = 0 then goW w ls (toldO q.1 v) (toldO q.2 v) else belW w (toldO q.1 v) (toldO q.2 v))
    by_cases z : c.1 = 0
    · rw [if_pos (by rw [z]), if_pos z, if_pos z]
      exact (e_X0_goesKept hC hW hX ⟨by omega, by omega⟩ ⟨by omega, by omega⟩).bnd
    · rw [if_neg (by rw [iI_eq (by omega) (by omega)]; exact z), if_neg z, if_neg z]
      exact (e_X0_believesKept hC hW ⟨by omega, by omega⟩ ⟨by omega, by omega⟩).bnd
/-! what runs keep -/
theorem Wx.keep {w : WR} (h : Wx w) {what : Int} : Wx (keepW w what) := by
  obtain ⟨h1, h2, h3⟩ := h
  have e : ∀ k, k ≠ 15 → keepW w what 0 k = w 0 k := fun k hk => by
    unfold keepW kpW shW
    split
    · rw [wup_k hk, wup_n (by decide)]
      refine (if_neg (fun z => absurd z.1 (by decide))).trans ?_
      rw [wup_k hk]
      exact (if_neg (fun z => absurd z.1 (by decide))).trans (if_neg (fun z => absurd z.1 (by decide)))
    · rw [wup_k hk, wup_n (by decide)]
      exact if_neg (fun z => absurd z.1 (by decide))
  have e15 : keepW w what 0 15 = if w 0 15 = 16 then 16 else w 0 15 + 1 := by
    unfold keepW kpW shW
    split
    · rw [wup_s, wup_s]
      rfl
    · rw [wup_s]
  refine ⟨by rw [e 11 (by decide)]; exact h1, ?_, by rw [e 26 (by decide)]; exact h3⟩
  rw [e15]
  split <;> omega
theorem Wx.o {w w' : WR} (h : Wx w) (e : ∀ k, w' 0 k = w 0 k) : Wx w' := by
  unfold Wx
  rw [e, e, e]
  exact h
theorem go_ok {w : WR} {ls : List (List DC)} (hW : Wf w ls) (hX : Wx w) {c cell : Int} : Wf (goW w ls c cell) ls ∧ Wx (goW w ls c cell) := by
  unfold goW
  split
  · rename_i h
    have hcell : 0 ≤ cell ∧ cell ≤ 35 := by
      unfold goZ at h
      split at h
      · assumption
      · omega
    exact ⟨hW.keep.cell hcell, hX.keep.o fun k => wup_n (by decide)⟩
  · exact ⟨hW, hX⟩
theorem bel_ok {w : WR} {ls : List (List DC)} (hW : Wf w ls) (hX : Wx w) {c cell : Int} : Wf (belW w c cell) ls ∧ Wx (belW w c cell) := by
  unfold belW
  split
  · rename_i h
    have hcell : -1 ≤ cell ∧ cell ≤ 35 := by
      unfold belZ at h
      split at h
      · assumption
      · omega
    refine ⟨?_, hX.o fun k => wup_n (by decide)⟩
    obtain ⟨h1, h2, h3, h4, h5, h6, h7⟩ := hW
    refine ⟨h1, h2, h3, h4, fun k k0 k6 => ?_, h6, h7⟩
    have := h5 k k0 k6
    refine ⟨this.1, this.2.1, this.2.2.1, this.2.2.2.1, ?_⟩
    unfold wup
    split
    · exact hcell
    · exact this.2.2.2.2
  · exact ⟨hW, hX⟩
theorem rush_ok {D : Nat → Prop} {s : St} {w : WR} {ls : List (List DC)} (hC : C0 D s w ls) (hW : Wf w ls) (hX : Wx w) : Wf (rushW w ls) ls ∧ Wx (rushW w ls) := by
  have hm := hW.1
  unfold rushW
  split
  · exact ⟨hW, hX⟩
  · obtain ⟨s1, e, hC1, hS1⟩ := e_X0_keeps hC hX (what := 1)
    obtain ⟨q1, q2, q3, q4, q5⟩ := e_X0_rushesKept_22 (D := D) (ls := ls) hm (w 2 8).toNat 0 s1 (keepW w 1) 0 hC1 hW.keep (keepW_o (by decide)) (by omega) (by omega) (by omega) FU (FU_ge (by omega))
    exact ⟨q4, hX.keep.o fun k => q5 0 k (by decide)⟩
theorem run_ok {D : Nat → Prop} {s : St} {w : WR} {ls : List (List DC)} (hC : C0 D s w ls) (hW : Wf w ls) (hX : Wx w) {c : OC} {v : Nat → Int} : (Wf (runW w ls c v) ls ∧ Wx (runW w ls c v)) ∧ -6 ≤ runV w ls c v ∧ runV w ls c v ≤ 35 := by
  unfold runW runV
  split
  · refine ⟨rush_ok hC hW hX, ?_⟩
    have := (e_X0_rushesKept hC hW hX).2
    unfold rushZ at this ⊢
    split
    · omega
    · rename_i h
      rw [if_neg h] at this
      have := this.resolve_left h
      omega
  · split
    · refine ⟨go_ok hW hX, ?_⟩
      rename_i q _ _
      have := goZ_r (ls := ls) hW (c := toldO q.1 v) (cell := toldO q.2 v)
      omega
    · refine ⟨bel_ok hW hX, ?_⟩
      rename_i q _ _
      have := belZ_r (w := w) (c := toldO q.1 v) (cell := toldO q.2 v)
      omega
/-! the loops -/
noncomputable def tmsF (ls : List (List DC)) (c : OC) : Nat → WR × Int × Int → WR ⊕ (WR × Int × Int)
  | 0, q => .inr q
  | t + 1, q => @ite _ (nowP c.2.2.2 (vOrd q.1 q.2.1 q.2.2)) (Classical.propDecidable _)
      (if runV q.1 ls c (vOrd q.1 q.2.1 q.2.2) < 0 then .inl (runW q.1 ls c (vOrd q.1 q.2.1 q.2.2)) else tmsF ls c t (runW q.1 ls c (vOrd q.1 q.2.1 q.2.2), q.2.1 + 1, if c.1 = 1 then runV q.1 ls c (vOrd q.1 q.2.1 q.2.2) else q.2.2))
      (tmsF ls c t q)
noncomputable def ordsF (ls : List (List DC)) : List OC → Int → WR × Int × Int → (WR × Int) ⊕ (WR × Int × Int)
  | [], _, q => .inr q
  | c :: cs, k, q => match tmsF ls c c.2.2.1.toNat q with
    | .inl w' => .inl (w', k)
    | .inr q' => ordsF ls cs (k + 1) q'
noncomputable def pbW (w : WR) (many : Int) : WR := wup (wcp (wcp (wcp (wcp w 17 0 3 0 6) 18 0 7 0 6) 15 0 13 0 96) 16 0 14 0 16) 0 15 many
theorem e_X0_putsBack {D : Nat → Prop} {s : St} {w : WR} {ls : List (List DC)} (hC : C0 D s w ls) {many : Int} : ∃ s', F_X0_putsBack s (iI many) = some ((), s') ∧ C0 D s' (pbW w many) ls ∧ Sm s s' := by
  have c1 := hC.cpy (a := 17) (b := 3) (i := 0) (j := 0) (n := 6) (by omega) (by omega) (by omega) (fun k h1 h2 => by show _ < _; omega) (by decide)
  have c2 := c1.cpy (a := 18) (b := 7) (i := 0) (j := 0) (n := 6) (by omega) (by omega) (by omega) (fun k h1 h2 => by show _ < _; omega) (by decide)
  have c3 := c2.cpy (a := 15) (b := 13) (i := 0) (j := 0) (n := 96) (by omega) (by omega) (by omega) (fun k h1 h2 => by show _ < _; omega) (by decide)
  have c4 := c3.cpy (a := 16) (b := 14) (i := 0) (j := 0) (n := 16) (by omega) (by omega) (by omega) (fun k h1 h2 => by show _ < _; omega) (by decide)
  have c5 := c4.set 0 (k := 15) (v := many) (by omega) (by decide)
  refine ⟨_, ?_, c5, (((Sm.cpy (by decide)).tr (Sm.cpy (by decide))).tr ((Sm.cpy (by decide)).tr (Sm.cpy (by decide)))).tr (Sm.set (by decide))⟩
  unfold F_X0_putsBack
  rw [k_0, k_6, k_96, k_16, gd_ok (okC_t (by omega) (by omega) (by omega) (by omega) (by omega)), nam_v, gd_ok (okC_t (by omega) (by omega) (by omega) (by omega) (by omega)), nam_v, gd_ok (okC_t (by omega) (by omega) (by omega) (by omega) (by omega)), nam_v, gd_ok (okC_t (by omega) (by omega) (by omega) (by omega) (by omega)), nam_v, iI_nat (by omega), iI_nat (by omega), iI_nat (by omega), iI_nat (by omega), nam_v]
  rfl
noncomputable def badW (w : WR) (many k : Int) : WR := refW (wup (pbW w many) 0 14 k) (-3)
theorem e_X0_orders_152 {D : Nat → Prop} {ls : List (List DC)} {a R : Nat} {c : OC} {k many : Int} {k123 : St → Option Nat → Int32 → Int32 → Int32 → Int32 → Option (Int32 × St)} {s0 : St} {V : Int} {W : WR} (hO : ∀ s, Sm s0 s → SkC s → OrdE s a c) : ∀ (j t : Nat) (s : St) (w : WR) (d r : Int), C0 D s w ls → Wf w ls → Wx w → Sm s0 s → (0 ≤ d ∧ d + j ≤ 1000) → (-1 ≤ r ∧ r ≤ 1000) → c.2.2.1.toNat = j + t →
    (∀ w', tmsF ls c j (w, d, r) = .inl w' → V = -3 ∧ W = badW w' many k) →
    (∀ q, tmsF ls c j (w, d, r) = .inr q → ∀ s', C0 D s' q.1 ls → Wf q.1 ls → Wx q.1 → Sm s0 s' → (0 ≤ q.2.1 ∧ q.2.1 ≤ d + j) → (-1 ≤ q.2.2 ∧ q.2.2 ≤ 1000) → Op D s0 ls (k123 s' (some R) (iI many) (iI q.2.1) (iI q.2.2) (iI (k + 1))) V W) →
    ∀ fu, j < fu → Op D s0 ls (F_X0_orders_152 k123 fu s (some R) (iI many) (iI d) (iI r) (iI k) (some a) (iI t)) V W := by
  intro j
  induction j with
  | zero =>
    intro t s w d r hC hW hX hs hd hr ht hbad hgo fu hfu
    obtain ⟨fu, rfl⟩ : ∃ g, fu = g + 1 := ⟨fu - 1, by omega⟩
    have hE := hO s hs hC.1
    have h3 := hE.2.2.1
    rw [F_X0_orders_152]
    show Op D s0 ls (drf (some a) _) V W
    rw [drf_s, isK_g hE.1, h3.1, if_pos (by rw [iI_le (by omega) (by omega)]; omega), k_1, iI_add]
    exact hgo (w, d, r) rfl s hC hW hX hs (by show 0 ≤ d ∧ d ≤ d + _; omega) hr
  | succ j ih =>
    intro t s w d r hC hW hX hs hd hr ht hbad hgo fu hfu
    obtain ⟨fu, rfl⟩ : ∃ g, fu = g + 1 := ⟨fu - 1, by omega⟩
    have hE := hO s hs hC.1
    have h3 := hE.2.2.1
    obtain ⟨g, e1, hv⟩ := e_X0_tellsOrder hC hW (d := d) (r := r) (by omega) hr
    have hs1 : Sm s0 (wV s g) := hs.tr Sm.wV
    have hC1 := hC.wV (g := g)
    have hE1 := hO _ hs1 hC1.1
    have h4 : (t : Int) + 1 = ((t + 1 : Nat) : Int) := by omega
    rw [tmsF] at hbad hgo
    rw [F_X0_orders_152]
    show Op D s0 ls (drf (some a) _) V W
    rw [drf_s, isK_g hE.1, h3.1, if_neg (by rw [iI_le (by omega) (by omega)]; omega), e1, bnd_s, drf_s, isK_g hE1.1, e_X18_isNow hE1 hv, bnd_s, gp_SkC hC1.1, k_m3, k_0, k_1, iI_add, iI_add, h4]
    by_cases a1 : nowP c.2.2.2 (vOrd w d r)
    · obtain ⟨s2, e2, hC2, m2⟩ := e_X0_runs hC1 hW hX hE1 hv
      have hok := run_ok hC1 hW hX (c := c) (v := vOrd w d r)
      have hs2 := hs1.tr m2
      have hE2 := hO _ hs2 hC2.1
      rw [if_pos a1] at hbad hgo
      rw [if_neg (by rw [bZ_i0]; exact fun z => z a1), e2, bnd_s]
      by_cases a2 : runV w ls c (vOrd w d r) < 0
      · obtain ⟨hV, hWW⟩ := hbad _ (if_pos a2)
        obtain ⟨s3, e3, hC3, m3⟩ := e_X0_putsBack hC2 (many := many)
        have hC4 := hC3.set 0 (k := 14) (v := k) (by omega) (by decide)
        rw [if_neg (by rw [iI_le (by omega) (by omega)]; omega), e3, bnd_s, nam_v, hV, hWW]
        exact (Op.refuse hC4 (by omega)).bnd.after ((hs2.tr m3).tr (Sm.set (by decide)))
      · have ng : ¬ runV w ls c (vOrd w d r) < 0 := a2
        rw [if_neg ng] at hbad hgo
        rw [if_pos (by rw [iI_le (by omega) (by omega)]; omega), drf_s, isK_g hE2.1, hE2.2.1.1]
        have hh := hE2.2.1
        have hrr : -1 ≤ runV w ls c (vOrd w d r) ∧ runV w ls c (vOrd w d r) ≤ 1000 := by omega
        by_cases a3 : c.1 = 1
        · rw [if_pos a3] at hbad hgo
          rw [if_pos (by rw [a3])]
          exact ih (t + 1) s2 _ (d + 1) _ hC2 hok.1.1 hok.1.2 hs2 (by omega) hrr (by omega) hbad (fun q hq s' c1 c2 c3 c4 c5 c6 => hgo q hq s' c1 c2 c3 c4 (by omega) c6) fu (by omega)
        · rw [if_neg a3] at hbad hgo
          rw [if_neg (by rw [iI_eq (by omega) (by omega)]; exact a3)]
          exact ih (t + 1) s2 _ (d + 1) r hC2 hok.1.1 hok.1.2 hs2 (by omega) hr (by omega) hbad (fun q hq s' c1 c2 c3 c4 c5 c6 => hgo q hq s' c1 c2 c3 c4 (by omega) c6) fu (by omega)
    · rw [if_neg a1] at hbad hgo
      rw [if_pos (by rw [bZ_i0]; exact a1)]
      exact ih (t + 1) (wV s g) w d r hC1 hW hX hs1 (by omega) hr (by omega) hbad (fun q hq s' c1 c2 c3 c4 c5 c6 => hgo q hq s' c1 c2 c3 c4 (by omega) c6) fu (by omega)
noncomputable def ordEndV : (WR × Int) ⊕ (WR × Int × Int) → Int
  | .inl _ => -3
  | .inr q => q.2.1
noncomputable def ordEndW (many : Int) : (WR × Int) ⊕ (WR × Int × Int) → WR
  | .inl q => badW q.1 many q.2
  | .inr q => wup q.1 0 0 0
theorem e_X0_orders_123 {D : Nat → Prop} {ls : List (List DC)} {R L b c0 : Nat} {f : Nat → Nat} {cs : List OC} {many : Int} {s0 : St} (h31 : 31 ≤ R ∧ 31 ≤ L ∧ 31 ≤ b) (hR : (sk s0 R).1 = 17) (h7 : sr s0 R 7 = some L) (hL : LstE s0 L b c0 cs.length f) (hE : ∀ i x, cs[i]? = some x → ∀ s, Sm s0 s → SkC s → OrdE s (f i) x) (hl : cs.length ≤ 12) : ∀ (j i : Nat) (s : St) (w : WR) (d r : Int), C0 D s w ls → Wf w ls → Wx w → Sm s0 s → (0 ≤ d ∧ d ≤ 20 * i) → (-1 ≤ r ∧ r ≤ 1000) → cs.length = j + i → ∀ fu, j < fu → Op D s0 ls (F_X0_orders_123 fu s (some R) (iI many) (iI d) (iI r) (iI i)) (ordEndV (ordsF ls (cs.drop i) i (w, d, r))) (ordEndW many (ordsF ls (cs.drop i) i (w, d, r))) := by
  intro j
  induction j with
  | zero =>
    intro i s w d r hC hW hX hs hd hr hi fu hfu
    obtain ⟨fu, rfl⟩ : ∃ g, fu = g + 1 := ⟨fu - 1, by omega⟩
    have kR : (sk s R).1 = 17 := by rw [hs.1]; exact hR
    have rR : sr s R 7 = some L := by rw [hs.2.1]; exact h7
    have hLs : LstE s L b c0 cs.length f := hL.go (hs.same h31.2.1) (hs.same h31.2.2)
    rw [F_X0_orders_123, List.drop_eq_nil_of_le (by omega), ordsF]
    show Op D s0 ls (drf (some R) _) d (wup w 0 0 0)
    rw [drf_s, isK_g kR, rR, drf_s, isK_g hLs.1, e_J2_size hLs, bnd_s, gp_SkC hC.1, if_pos (by rw [iI_le (by omega) (by omega)]; omega)]
    exact (Op.done hC d).bnd.after hs
  | succ j ih =>
    intro i s w d r hC hW hX hs hd hr hi fu hfu
    obtain ⟨fu, rfl⟩ : ∃ g, fu = g + 1 := ⟨fu - 1, by omega⟩
    have kR : (sk s R).1 = 17 := by rw [hs.1]; exact hR
    have rR : sr s R 7 = some L := by rw [hs.2.1]; exact h7
    have hLs : LstE s L b c0 cs.length f := hL.go (hs.same h31.2.1) (hs.same h31.2.2)
    obtain ⟨x, hx, hdr⟩ := drop_cons (l := cs) (i := i) (by omega)
    have hEx := hE i x hx
    have hE0 := hEx s hs hC.1
    have h3 := hE0.2.2.1
    rw [F_X0_orders_123, hdr, ordsF]
    show Op D s0 ls (drf (some R) _) _ _
    rw [drf_s, isK_g kR, rR, drf_s, isK_g hLs.1, e_J2_size hLs, bnd_s, gp_SkC hC.1, if_neg (by rw [iI_le (by omega) (by omega)]; omega), drf_s, isK_g kR, rR, drf_s, isK_g hLs.1, e_J2_get hLs (by omega), bnd_s, gp_SkC hC.1, drf_s, Int.toNat_natCast, isK_g hE0.1, k_0]
    refine e_X0_orders_152 (c := x) (k := (i : Int)) hEx x.2.2.1.toNat 0 s w d r hC hW hX hs (by omega) hr (by omega) (fun w' hw' => ?_) (fun q hq s' c1 c2 c3 c4 c5 c6 => ?_) FU (FU_ge (by omega))
    · rw [hw']
      exact ⟨rfl, rfl⟩
    · rw [hq]
      exact ih (i + 1) s' q.1 q.2.1 q.2.2 c1 c2 c3 c4 (by omega) c6 (by omega) fu (by omega)
noncomputable def ordTxt (w : WR) : Nat ⊕ List OC := readP (tapeT 17 w) (w 0 11).toNat (ordC (tapeT 17 w) (w 0 11).toNat (ordV (tapeT 17 w) (w 0 11).toNat))
noncomputable def ahW (w : WR) : WR := wcp (wcp (wcp (wcp w 3 0 17 0 6) 7 0 18 0 6) 13 0 15 0 96) 14 0 16 0 16
noncomputable def or0 (w : WR) : WR := wup (wup w 0 11 0) 0 14 (-1)
noncomputable def orR (w : WR) (ls : List (List DC)) (cs : List OC) : (WR × Int) ⊕ (WR × Int × Int) := ordsF ls cs 0 (ahW (wup (or0 w) 0 12 (-1)), 0, -1)
noncomputable def ordersV (w : WR) (ls : List (List DC)) : Int := match ordTxt w with
  | .inl _ => -6
  | .inr cs => ordEndV (orR w ls cs)
noncomputable def ordersW (w : WR) (ls : List (List DC)) : WR := match ordTxt w with
  | .inl q => refW (wup (or0 w) 0 12 q) (-6)
  | .inr cs => ordEndW (w 0 15) (orR w ls cs)
theorem x_orders {D : Nat → Prop} {s : St} {w : WR} {ls : List (List DC)} {o : Option Nat} {b0 : Nat} {im : IM} (h : CI D s w ls o b0 im) (hW : Wf w ls) (hX : Wx w) (hT : tapeOk w) (hm1 : sn s + 4000 ≤ smx s) (hm2 : ss s + 210000 ≤ sms s) : OpX s (F_X0_orders s) (iI (ordersV w ls)) (ordersW w ls) ls im := by
  have ht := hX.1
  have n31 := h.2.1.2.1
  have C1 := (h.1.set 0 (k := 11) (v := 0) (by omega) (by decide)).set 0 (k := 14) (v := -1) (by omega) (by decide)
  have m1 : Sm s (setI (setI s 0 11 (iI 0)) 0 14 (iI (-1))) := (Sm.set (by decide)).tr (Sm.set (by decide))
  have h1 : CI D (setI (setI s 0 11 (iI 0)) 0 14 (iI (-1))) (or0 w) ls o b0 im := h.sm C1 m1
  obtain ⟨s1, hs1⟩ : ∃ s1, s1 = setI (setI s 0 11 (iI 0)) 0 14 (iI (-1)) := ⟨_, rfl⟩
  have e1 : setI (setI s 0 11 (0 : Int32)) 0 14 (-1 : Int32) = s1 := by rw [hs1]; rfl
  rw [← hs1] at h1
  have z1 : sn s1 = sn s ∧ ss s1 = ss s ∧ smx s1 = smx s ∧ sms s1 = sms s := by rw [hs1]; exact ⟨rfl, rfl, rfl, rfl⟩
  unfold F_X0_orders ordersV ordersW
  rw [h.1.2.1.taped, nam_v, nam_v, e1, k_m1, k_m6, k_0]
  obtain ⟨n, hn⟩ : ∃ n, n = (w 0 11).toNat := ⟨_, rfl⟩
  have hni : (w 0 11) = (n : Int) := by omega
  have hw19 : ∀ k : Nat, k < 400 → si s1 19 k = iI (w 19 k) := fun k hk => by
    have := h1.1.2.1 19 (k : Int) (by omega) (by show (k : Int) < 400; omega)
    unfold or0 at this
    rw [wup_n (by decide), wup_n (by decide), Int.toNat_natCast] at this
    exact this
  obtain ⟨s2, e2, B2, i2, k2, r2, L2, O2, v2, m2⟩ := e_rd_init (QC := QOr) (s := s1) (tag := 17) (n := n) (w := w) (Or.inr rfl) h1.2.1.1 h1.2.1.2.1 (h1.1.1.1 19 (by decide)) hw19 hT (by omega) (by omega) (by omega) (f := fun _ => 0)
  have hCR0 : SkC (newO s1 (17, 0) 8) := h1.1.1.new h1.2.1.2.1
  have hS2 : SkC s2 := (h1.1.old h1.2.1.1 h1.2.1.2.1 h1.2.1.2.2.1 O2).1
  have hr := e_X0_reads QOr_ok h1 (R := sn s1) (ord_clf (Nat.lt_succ_self _) (if_pos rfl)) ordC_q rfl O2 v2 (by omega) B2 i2 (by unfold Rm; omega) (by rw [k2]; exact (if_pos rfl).symm) k2 r2 L2
  have e2' : F_X20_init (newO s1 (17, 0) 8) (sn s1) (some 19) (iI (w 0 11)) = some ((), s2) := by
    unfold F_X20_init
    rw [hni]
    exact e2
  have hlt : ordTxt w = readP (tapeT ((17 : Nat) : Int) w) n (ordC (tapeT ((17 : Nat) : Int) w) n (ordV (tapeT ((17 : Nat) : Int) w) n)) := by
    unfold ordTxt
    rw [← hn]
    rfl
  rw [gd_ok (okN_t (by omega) (by omega)), nam_v, gp_SkC hCR0, e2', bnd_s, gp_SkC hS2, hlt]
  cases er : readP (tapeT ((17 : Nat) : Int) w) n (ordC (tapeT ((17 : Nat) : Int) w) n (ordV (tapeT ((17 : Nat) : Int) w) n)) with
  | inl q =>
    rw [er] at hr
    obtain ⟨s3, e3, c3, t3⟩ := hr
    rw [e3, bnd_s, if_pos rfl]
    obtain ⟨s4, e4, c4, m4⟩ := (Op.refuse c3.1 (v := -6) (by omega)).bnd
    refine ⟨_, s4, o, b0, e4, c3.sm c4 m4, ?_⟩
    have := m4.2.2.1
    unfold Tk at t3 ⊢
    omega
  | inr cs =>
    rw [er] at hr
    obtain ⟨s3, b3, c3, f3, e3, I3, t3, L3, l3, kR⟩ := hr
    have n3 := t3.1
    unfold Tk at t3
    have kR6 : (sk s3 (sn s1)).1 = 17 := by rw [kR.1]; exact k2
    have rR7 : sr s3 (sn s1) 7 = some (sn s1 + 1) := by rw [kR.2]; exact r2
    have w2f : Wf (wup (or0 w) 0 12 (-1)) ls := hW.same fun r k hr => by
      unfold or0
      rw [wup_n (by omega), wup_n (by omega), wup_n (by omega)]
    have w2x : Wx (wup (or0 w) 0 12 (-1)) := by
      unfold Wx or0
      rw [wup_k (by decide), wup_k (by decide), wup_s, wup_k (by decide), wup_k (by decide), wup_k (by decide), wup_k (by decide), wup_k (by decide), wup_k (by decide)]
      exact ⟨by omega, hX.2⟩
    -- what was is kept
    have d1 := I3.1.cpy (a := 3) (b := 17) (i := 0) (j := 0) (n := 6) (by omega) (by omega) (by omega) (fun k h1 h2 => by show _ < _; omega) (by decide)
    have d2 := d1.cpy (a := 7) (b := 18) (i := 0) (j := 0) (n := 6) (by omega) (by omega) (by omega) (fun k h1 h2 => by show _ < _; omega) (by decide)
    have d3 := d2.cpy (a := 13) (b := 15) (i := 0) (j := 0) (n := 96) (by omega) (by omega) (by omega) (fun k h1 h2 => by show _ < _; omega) (by decide)
    have d4 := d3.cpy (a := 14) (b := 16) (i := 0) (j := 0) (n := 16) (by omega) (by omega) (by omega) (fun k h1 h2 => by show _ < _; omega) (by decide)
    have m4 : Sm s3 (cpyI (cpyI (cpyI (cpyI s3 3 (0 : Int).toNat 17 (0 : Int).toNat (6 : Int).toNat) 7 (0 : Int).toNat 18 (0 : Int).toNat (6 : Int).toNat) 13 (0 : Int).toNat 15 (0 : Int).toNat (96 : Int).toNat) 14 (0 : Int).toNat 16 (0 : Int).toNat (16 : Int).toNat) := ((Sm.cpy (by decide)).tr (Sm.cpy (by decide))).tr ((Sm.cpy (by decide)).tr (Sm.cpy (by decide)))
    obtain ⟨s4, hs4⟩ : ∃ s4, s4 = cpyI (cpyI (cpyI (cpyI s3 3 (0 : Int).toNat 17 (0 : Int).toNat (6 : Int).toNat) 7 (0 : Int).toNat 18 (0 : Int).toNat (6 : Int).toNat) 13 (0 : Int).toNat 15 (0 : Int).toNat (96 : Int).toNat) 14 (0 : Int).toNat 16 (0 : Int).toNat (16 : Int).toNat := ⟨_, rfl⟩
    rw [← hs4] at m4
    have d5 : C0 (fun b => D b ∨ sn s1 ≤ b ∧ b < sn s3) s4 (ahW (wup (or0 w) 0 12 (-1))) ls := by rw [hs4]; exact d4
    have ahO : ∀ r k, r < 15 ∨ 18 < r → ahW (wup (or0 w) 0 12 (-1)) r k = wup (or0 w) 0 12 (-1) r k := fun r k hr => by
      unfold ahW
      refine (if_neg (by omega)).trans ((if_neg (by omega)).trans ((if_neg (by omega)).trans (if_neg (by omega))))
    have w4f : Wf (ahW (wup (or0 w) 0 12 (-1))) ls := w2f.same fun r k hr => ahO r k (by omega)
    have w4x : Wx (ahW (wup (or0 w) 0 12 (-1))) := w2x.o fun k => ahO 0 k (by omega)
    have e15 : si s4 0 15 = iI (w 0 15) := by
      have := d5.2.1.undo
      rw [ahO 0 15 (by omega)] at this
      unfold or0 at this
      rw [wup_k (by decide), wup_k (by decide), wup_k (by decide)] at this
      exact this
    obtain ⟨q1, q2, q3, q4, q5, q6⟩ := L3
    have h31' : 31 ≤ sn s1 := by omega
    have hgo := e_X0_orders_123 (D := fun b => D b ∨ sn s1 ≤ b ∧ b < sn s3) (ls := ls) (many := w 0 15) (s0 := s4) ⟨h31', by omega, by omega⟩ (by rw [m4.1]; exact kR6) (by rw [m4.2.1]; exact rR7) (q1.go (m4.same (by omega)) (m4.same (by omega))) (fun i x hx s5 hs5 hS5 => by
      obtain ⟨lo1, hi1, g1, g2, -⟩ := q3 i x hx
      exact g2.2.2 s5 (fun y hy => (m4.same (by omega)).tr (hs5.same (by omega))) hS5) l3 cs.length 0 s4 _ 0 (-1) d5 w4f w4x Sm.rf (by omega) (by omega) (by omega) FU (FU_ge (by omega))
    obtain ⟨s6, e6, c6, m6⟩ := hgo
    have I4 := I3.sm d5 m4
    rw [e3, bnd_s, if_neg (by decide), k_6, k_96, k_16, gd_ok (okC_t (by omega) (by omega) (by omega) (by omega) (by omega)), nam_v, gd_ok (okC_t (by omega) (by omega) (by omega) (by omega) (by omega)), nam_v, gd_ok (okC_t (by omega) (by omega) (by omega) (by omega) (by omega)), nam_v, gd_ok (okC_t (by omega) (by omega) (by omega) (by omega) (by omega)), nam_v, iI_nat (by omega), iI_nat (by omega), iI_nat (by omega), iI_nat (by omega), ← hs4, e15]
    refine ⟨_, s6, o, b0, e6, I4.sm c6 m6, ?_⟩
    have y1 := m4.2.2.1
    have y2 := m6.2.2.1
    unfold Tk
    omega
