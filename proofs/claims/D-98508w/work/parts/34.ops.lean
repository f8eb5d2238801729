set_option maxRecDepth 100000
/-! ===== the component's calls that change registers alone ===== -/
def Sm (s s' : St) : Prop := sk s' = sk s ∧ sr s' = sr s ∧ (sn s' = sn s ∧ ss s' = ss s ∧ smx s' = smx s ∧ sms s' = sms s) ∧ (∀ b, 31 ≤ b → si s' b = si s b) ∧ (∀ b, b ≠ 22 → b ≠ 0 → sl s' b = sl s b)
theorem Sm.rf {s : St} : Sm s s := ⟨rfl, rfl, ⟨rfl, rfl, rfl, rfl⟩, fun _ _ => rfl, fun _ _ _ => rfl⟩
theorem Sm.tr {s s1 s2 : St} (h : Sm s s1) (g : Sm s1 s2) : Sm s s2 :=
  ⟨g.1.trans h.1, g.2.1.trans h.2.1, ⟨g.2.2.1.1.trans h.2.2.1.1, g.2.2.1.2.1.trans h.2.2.1.2.1, g.2.2.1.2.2.1.trans h.2.2.1.2.2.1, g.2.2.1.2.2.2.trans h.2.2.1.2.2.2⟩, fun b hb => (g.2.2.2.1 b hb).trans (h.2.2.2.1 b hb), fun b h1 h2 => (g.2.2.2.2 b h1 h2).trans (h.2.2.2.2 b h1 h2)⟩
theorem Sm.wV {s : St} {g : Nat → Int64} : Sm s (wV s g) := ⟨rfl, rfl, ⟨rfl, rfl, rfl, rfl⟩, fun _ _ => rfl, fun b h1 _ => if_neg h1⟩
theorem Sm.set {s : St} {a k : Nat} {v : Int32} (h : a < 31) : Sm s (setI s a k v) := ⟨rfl, rfl, ⟨rfl, rfl, rfl, rfl⟩, fun b hb => by
  funext j
  rw [si_set, if_neg (by omega)], fun _ _ _ => rfl⟩
def Op (D : Nat → Prop) (s : St) (ls : List (List DC)) (x : Option (Int32 × St)) (v : Int) (w' : WR) : Prop := ∃ s', x = some (iI v, s') ∧ C0 D s' w' ls ∧ Sm s s'
theorem Op.ret {D : Nat → Prop} {s : St} {ls : List (List DC)} {v : Int} {w : WR} (h : C0 D s w ls) : Op D s ls (some (iI v, s)) v w := ⟨s, rfl, h, Sm.rf⟩
theorem Op.after {D : Nat → Prop} {s s1 : St} {ls : List (List DC)} {x : Option (Int32 × St)} {v : Int} {w' : WR} (h : Sm s s1) (k : Op D s1 ls x v w') : Op D s ls x v w' := by
  obtain ⟨s2, e, hC, hS⟩ := k
  exact ⟨s2, e, hC, h.tr hS⟩
/-- an answer, once more by its name -/
theorem Op.bnd {D : Nat → Prop} {s : St} {ls : List (List DC)} {x : Option (Int32 × St)} {v : Int} {w' : WR} (h : Op D s ls x v w') : Op D s ls (bnd x fun r s => some (r, s)) v w' := by
  obtain ⟨s2, rfl, hC, hS⟩ := h
  exact ⟨s2, rfl, hC, hS⟩
theorem Op.done {D : Nat → Prop} {s : St} {ls : List (List DC)} {w : WR} (h : C0 D s w ls) (v : Int) : Op D s ls (F_X0_done s (iI v)) v (wup w 0 0 0) :=
  ⟨_, rfl, h.set 0 (k := 0) (v := 0) (by omega) (by decide), Sm.set (by decide)⟩
def refW (w : WR) (v : Int) : WR := wup (wup w 0 0 v) 1 (-v) (w 1 (-v) + 1)
theorem Op.refuse {D : Nat → Prop} {s : St} {ls : List (List DC)} {w : WR} (h : C0 D s w ls) {v : Int} (hv : -6 ≤ v ∧ v < 0) : Op D s ls (F_X0_refuse s (iI v)) v (refW w v) := by
  refine ⟨_, e_X0_refuse h.2.1 hv, ?_, (Sm.set (by decide)).tr (Sm.set (by decide))⟩
  exact (h.set 0 (k := 0) (v := v) (by omega) (by decide)).set 1 (by omega) (by decide)
theorem Op.settled {D : Nat → Prop} {s : St} {ls : List (List DC)} {w : WR} (h : C0 D s w ls) (v : Int) : Op D s ls (F_X0_settled s (iI v)) v (wup (wup w 0 15 0) 0 0 0) := by
  unfold F_X0_settled
  exact (Op.done (h.set 0 (k := 15) (v := 0) (by omega) (by decide)) v).bnd.after (Sm.set (by decide))
def canGoP (w : WR) (ls : List (List DC)) (f : Int → Int) (c cell : Int) : Prop := whoZ f (w 2 8) cell = -1 ∧ ¬ barC w ls c cell
theorem e_X0_canGo {D : Nat → Prop} {s : St} {w : WR} {ls : List (List DC)} (hC : C0 D s w ls) (hW : Wf w ls) {a : Nat} {f : Int → Int} (hk : sk s a = (100, 6)) (hf : ∀ c, 0 ≤ c → c < 6 → si s a c.toNat = iI (f c) ∧ -1 ≤ f c ∧ f c ≤ 35) {c cell : Int} (hc : 0 ≤ c ∧ c < 6) (hl : 0 ≤ cell ∧ cell ≤ 1000000000) : ∃ g, F_X0_canGo s (some a) (iI c) (iI cell) = some (iI (bZ (canGoP w ls f c cell)), wV s g) := by
  have hr := whoF_r (f := f) (z := cell) (w 2 8).toNat 0 (by omega)
  have hm := hW.1
  unfold F_X0_canGo canGoP
  rw [e_X0_whoIn hm hC.2.1.many hk hf (by omega), bnd_s]
  by_cases h1 : whoZ f (w 2 8) cell = -1
  · rw [if_pos (by rw [h1]; rfl)]
    obtain ⟨g, e⟩ := e_X0_isBarred_2 hC hW hc hl
    refine ⟨g, ?_⟩
    rw [e, bnd_s]
    by_cases h2 : barC w ls c cell
    · rw [if_neg (by rw [k_0, bZ_i0]; exact fun z => z h2), bZ_f (fun z => z.2 h2)]; rfl
    · rw [if_pos (by rw [k_0, bZ_i0]; exact h2), bZ_t ⟨h1, h2⟩]; rfl
  · rw [if_neg (by rw [k_m1, iI_eq (by unfold whoZ; omega) (by omega)]; exact h1), bZ_f (fun z => h1 z.1)]
    exact ⟨sl s 22, by rw [wV_same]; rfl⟩
theorem RCi.cells {s : St} {w : WR} {ls : List (List DC)} (h : RCi s w) (hW : Wf w ls) : ∀ c, 0 ≤ c → c < 6 → si s 3 c.toNat = iI (w 3 c) ∧ -1 ≤ w 3 c ∧ w 3 c ≤ 35 := fun c h0 h6 => ⟨h 3 c h0 h6, by have := hW.cat h0 h6; omega⟩
/-- why a catcher can't be; 0 -/
noncomputable def comesZ (w : WR) (ls : List (List DC)) (cell reach want tall : Int) : Int :=
  @ite _ (¬ ((0 ≤ cell ∧ cell ≤ 35) ∧ (0 ≤ reach ∧ reach ≤ 3) ∧ (-9 ≤ want ∧ want ≤ 9) ∧ (1 ≤ tall ∧ tall ≤ 9))) (Classical.propDecidable _) (-1)
    (@ite _ (whoZ (w 3) (w 2 8) cell ≠ -1 ∨ barP w ls (w 2 8) want tall cell) (Classical.propDecidable _) (-3) (if w 2 8 = 6 then -5 else 0))
def comesW (w : WR) (cell reach want tall : Int) : WR := wup (wup (wup (wup (wup (wup w 3 (w 2 8) cell) 4 (w 2 8) reach) 5 (w 2 8) want) 6 (w 2 8) tall) 7 (w 2 8) (-1)) 2 8 (w 2 8 + 1)
noncomputable def comesV (w : WR) (ls : List (List DC)) (cell reach want tall : Int) : WR := if comesZ w ls cell reach want tall = 0 then comesW w cell reach want tall else w
theorem e_X0_comesIn {D : Nat → Prop} {s : St} {w : WR} {ls : List (List DC)} (hC : C0 D s w ls) (hW : Wf w ls) {cell reach want tall : Int} (h1 : -2147483648 ≤ cell ∧ cell ≤ 2147483647) (h2 : -2147483648 ≤ reach ∧ reach ≤ 2147483647) (h3 : -2147483648 ≤ want ∧ want ≤ 2147483647) (h4 : -2147483648 ≤ tall ∧ tall ≤ 2147483647) : Op D s ls (F_X0_comesIn s (iI cell) (iI reach) (iI want) (iI tall)) (comesZ w ls cell reach want tall) (comesV w ls cell reach want tall) := by
  have hm := hW.1
  unfold comesV
  unfold comesZ
  unfold F_X0_comesIn
  rw [e_X0_isCell s h1, bnd_s, k_m1, k_m3, k_m5, k_0, k_1, k_2, k_6]
  by_cases a1 : 0 ≤ cell ∧ cell ≤ 35
  · rw [if_neg (by rw [bZ_i0]; exact fun z => z a1), e_X0_isPut s (by omega) h2, bnd_s]
    by_cases a2 : 0 ≤ reach ∧ reach ≤ 3
    · rw [if_neg (by rw [bZ_i0]; exact fun z => z (Or.inl ⟨rfl, a2⟩)), e_X0_isPut s (by omega) h3, bnd_s]
      by_cases a3 : -9 ≤ want ∧ want ≤ 9
      · rw [if_neg (by rw [bZ_i0]; exact fun z => z (Or.inr (Or.inl ⟨rfl, a3⟩))), e_X0_isPut s (by omega) h4, bnd_s]
        by_cases a4 : 1 ≤ tall ∧ tall ≤ 9
        · rw [if_neg (by rw [bZ_i0]; exact fun z => z (Or.inr (Or.inr ⟨rfl, a4⟩))), e_X0_whoIn hm hC.2.1.many (hC.1.1 3 (by decide)) (hC.2.1.cells hW) (by omega), bnd_s]
          have hr := whoF_r (f := w 3) (z := cell) (w 2 8).toNat 0 (by omega)
          have hz : (¬ ((0 ≤ cell ∧ cell ≤ 35) ∧ (0 ≤ reach ∧ reach ≤ 3) ∧ (-9 ≤ want ∧ want ≤ 9) ∧ (1 ≤ tall ∧ tall ≤ 9))) ↔ False := ⟨fun z => z ⟨a1, a2, a3, a4⟩, False.elim⟩
          simp only [hz, if_false]
          by_cases a5 : whoZ (w 3) (w 2 8) cell = -1
          · rw [if_pos (by rw [a5])]
            obtain ⟨g, e⟩ := e_X0_isBarred hC hW (c := w 2 8) (want := want) (tall := tall) (cell := cell) (by omega) (by omega) (by omega) (by omega)
            rw [hC.2.1.many, e, bnd_s, bnd_s]
            by_cases a6 : barP w ls (w 2 8) want tall cell
            · have hq : (whoZ (w 3) (w 2 8) cell ≠ -1 ∨ barP w ls (w 2 8) want tall cell) := Or.inr a6
              have hb : ¬ (iI (bZ (barP w ls (w 2 8) want tall cell)) = iI 0) := by rw [bZ_i0]; exact fun z => z a6
              simp only [hb, if_false, ite_self]
              rw [if_pos hq, if_neg (by omega)]
              exact (Op.ret hC.wV).after Sm.wV
            · have hq : ¬ (whoZ (w 3) (w 2 8) cell ≠ -1 ∨ barP w ls (w 2 8) want tall cell) := fun z => z.elim (fun y => y a5) a6
              have hb : iI (bZ (barP w ls (w 2 8) want tall cell)) = iI 0 := by rw [bZ_i0]; exact a6
              rw [if_neg hq]
              by_cases a7 : w 2 8 = 6
              · rw [if_pos (by rw [a7]), if_pos hb, if_pos a7, if_neg (by omega)]
                exact (Op.ret hC.wV).after Sm.wV
              · rw [if_neg (by rw [iI_eq (by omega) (by omega)]; exact a7), if_pos hb, if_neg a7, if_pos rfl]
                have hC1 := hC.wV (g := g)
                have hC2 := hC1.set 3 (k := w 2 8) (v := cell) (by omega) (by decide)
                have hC3 := hC2.set 4 (k := w 2 8) (v := reach) (by omega) (by decide)
                have hC4 := hC3.set 5 (k := w 2 8) (v := want) (by omega) (by decide)
                have hC5 := hC4.set 6 (k := w 2 8) (v := tall) (by omega) (by decide)
                have hC6 := hC5.set 7 (k := w 2 8) (v := -1) (by omega) (by decide)
                have hC7 := hC6.set 2 (k := 8) (v := w 2 8 + 1) (by omega) (by decide)
                have hm6 := hC6.2.1.many
                rw [wup_n (by decide), wup_n (by decide), wup_n (by decide), wup_n (by decide), wup_n (by decide)] at hm6
                rw [inb_g (by omega), nam_v, inb_g (by omega), nam_v, inb_g (by omega), nam_v, inb_g (by omega), nam_v, inb_g (by omega), nam_v, iI_nat (by omega), hm6, iI_add, nam_v]
                exact (Op.ret hC7).after (Sm.wV.tr ((Sm.set (by decide)).tr ((Sm.set (by decide)).tr ((Sm.set (by decide)).tr ((Sm.set (by decide)).tr ((Sm.set (by decide)).tr (Sm.set (by decide))))))))
          · have hq : (whoZ (w 3) (w 2 8) cell ≠ -1 ∨ barP w ls (w 2 8) want tall cell) := Or.inl a5
            rw [if_neg (by rw [iI_eq (by unfold whoZ; omega) (by omega)]; exact a5), if_pos hq, if_neg (by omega)]
            exact Op.ret hC
        · rw [if_pos (by rw [bZ_i0]; exact fun z => a4 (by unfold isPutP at z; omega)), if_pos (fun z => a4 z.2.2.2), if_neg (by omega)]
          exact Op.ret hC
      · rw [if_pos (by rw [bZ_i0]; exact fun z => a3 (by unfold isPutP at z; omega)), if_pos (fun z => a3 z.2.2.1), if_neg (by omega)]
        exact Op.ret hC
    · rw [if_pos (by rw [bZ_i0]; exact fun z => a2 (by unfold isPutP at z; omega)), if_pos (fun z => a2 z.2.1), if_neg (by omega)]
      exact Op.ret hC
  · rw [if_pos (by rw [bZ_i0]; exact a1), if_pos (fun z => a1 z.1), if_neg (by omega)]
    exact Op.ret hC
