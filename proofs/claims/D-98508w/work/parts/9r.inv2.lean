set_option maxRecDepth 100000
/-! ===== what every call keeps, on ===== -/
theorem kp_13 {w : WR} {what k : Int} : kpW w what 13 k = if 6 * w 0 15 ≤ k ∧ k < 6 * w 0 15 + 6 then w 3 (k - 6 * w 0 15) else w 13 k := by
  unfold kpW
  rw [wup_n (by omega), wup_n (by omega)]
  unfold wcp
  by_cases c : 6 * w 0 15 ≤ k ∧ k < 6 * w 0 15 + 6
  · rw [if_pos ⟨rfl, c⟩, if_pos c, show 0 + (k - 6 * w 0 15) = k - 6 * w 0 15 by omega]
  · rw [if_neg (fun z => c z.2), if_neg c]
theorem kp_14 {w : WR} {what k : Int} : kpW w what 14 k = if k = w 0 15 then what else w 14 k := by
  unfold kpW
  rw [wup_n (by omega)]
  by_cases c : k = w 0 15
  · rw [if_pos c, c, wup_s]
  · rw [if_neg c, wup_k c]
    exact if_neg fun z => absurd z.1 (by omega)
theorem kp_15 {w : WR} {what : Int} : kpW w what 0 15 = w 0 15 + 1 := by
  unfold kpW
  rw [wup_s]
theorem kp_o {w : WR} {what k : Int} {r : Nat} (h : r ≠ 13 ∧ r ≠ 14) (h2 : ¬ (r = 0 ∧ k = 15)) : kpW w what r k = w r k := by
  unfold kpW
  rw [wup_k2 h2, wup_n h.2, wcpN h.1]
theorem Iv.kp {w : WR} {ls : List (List DC)} {iv : IV} (h : Iv w ls iv) {what : Int} (hw : 0 ≤ what ∧ what ≤ 1) (h15 : w 0 15 ≤ 15) : Iv (kpW w what) ls iv := by
  obtain ⟨hW, hX, hT, hU, hD, hU2, hI⟩ := h
  have hm := hW.1
  have e8 : kpW w what 2 8 = w 2 8 := kp_o (by omega) (by omega)
  refine ⟨hW.same fun r k hr => kp_o (by omega) (by omega), ?_, fun k h0 h1 => by rw [kp_o (by omega) (by omega)]; exact hT k h0 h1, ⟨fun k h0 h1 => ?_, fun k h0 h1 => ?_⟩, Ds.same hD e8 fun k _ _ => kp_o (by omega) (by omega), fun n h0 h1 => ?_, hI⟩
  · unfold Wx
    rw [kp_o (by omega) (by omega), kp_15, kp_o (by omega) (by omega)]
    have := hX.2.1
    exact ⟨hX.1, by omega, hX.2.2⟩
  · rw [kp_14]
    split
    · exact hw
    · exact hU.1 k h0 h1
  · rw [kp_13]
    split
    · rename_i c
      exact (hW.cat (c := k - 6 * w 0 15) (by omega) (by omega)).1
    · exact hU.2 k h0 h1
  · rw [kp_15] at h1
    by_cases e : n = w 0 15
    · refine Ds.same hD e8 fun k k0 k1 => ?_
      skip
      rw [kp_13, if_pos (by omega), e, show 6 * w 0 15 + k - 6 * w 0 15 = k by omega]
    · refine Ds.same (hU2 n h0 (by omega)) e8 fun k k0 k1 => ?_
      skip
      rw [kp_13, if_neg (by omega)]
theorem Iv.sh {w : WR} {ls : List (List DC)} {iv : IV} (h : Iv w ls iv) (h16 : w 0 15 = 16) : Iv (shW w) ls iv := by
  obtain ⟨hW, hX, hT, hU, hD, hU2, hI⟩ := h
  have hm := hW.1
  have o : ∀ r k, r ≠ 13 → r ≠ 14 → ¬ (r = 0 ∧ k = 15) → shW w r k = w r k := fun r k h1 h2 h3 => by
    unfold shW
    rw [wup_k2 h3, wcpN h2, wcpN h1]
  have o13 : ∀ k, 0 ≤ k → k < 96 → shW w 13 k = w 13 (if k < 90 then 6 + k else k) := fun k k0 k1 => by
    unfold shW
    rw [wup_n (by omega), wcpN (by omega)]
    by_cases c : k < 90
    · rw [wcpH (by omega), if_pos c, show 6 + (k - 0) = 6 + k by omega]
    · rw [if_neg c]
      exact if_neg fun z => by omega
  have o14 : ∀ k, 0 ≤ k → k < 16 → shW w 14 k = w 14 (if k < 15 then 1 + k else k) := fun k k0 k1 => by
    unfold shW
    rw [wup_n (by omega)]
    by_cases c : k < 15
    · rw [wcpH (by omega), wcpN (by omega), if_pos c, show 1 + (k - 0) = 1 + k by omega]
    · rw [if_neg c]
      exact (if_neg fun z => by omega).trans (if_neg fun z => by omega)
  have o15 : shW w 0 15 = 15 := by unfold shW; rw [wup_s]
  refine ⟨hW.same fun r k hr => o r k (by omega) (by omega) (by omega), ?_, fun k h0 h1 => by rw [o 19 k (by omega) (by omega) (by omega)]; exact hT k h0 h1, ⟨fun k h0 h1 => ?_, fun k h0 h1 => ?_⟩, Ds.same hD (o 2 8 (by omega) (by omega) (by omega)) fun k _ _ => o 3 k (by omega) (by omega) (by omega), fun n h0 h1 => ?_, hI⟩
  · unfold Wx
    rw [o 0 11 (by omega) (by omega) (by omega), o15, o 0 26 (by omega) (by omega) (by omega)]
    exact ⟨hX.1, by omega, hX.2.2⟩
  · rw [o14 k h0 h1]
    split <;> exact hU.1 _ (by omega) (by omega)
  · rw [o13 k h0 h1]
    split <;> exact hU.2 _ (by omega) (by omega)
  · rw [o15] at h1
    refine Ds.same (hU2 (n + 1) (by omega) (by omega)) (o 2 8 (by omega) (by omega) (by omega)) fun k k0 k1 => ?_
    skip
    rw [o13 _ (by omega) (by omega), if_pos (by omega), show 6 + (6 * n + k) = 6 * (n + 1) + k by omega]
theorem Iv.keep {w : WR} {ls : List (List DC)} {iv : IV} (h : Iv w ls iv) {what : Int} (hw : 0 ≤ what ∧ what ≤ 1) : Iv (keepW w what) ls iv := by
  have hx := h.2.1.2.1
  unfold keepW
  split
  · rename_i e
    refine (h.sh e).kp hw ?_
    unfold shW
    rw [wup_s]
    omega
  · exact h.kp hw (by omega)
theorem Iv.cell {w : WR} {ls : List (List DC)} {iv : IV} (h : Iv w ls iv) {c cell : Int} (hc : 0 ≤ cell ∧ cell ≤ 35) (hf : whoZ (w 3) (w 2 8) cell = -1) : Iv (wup w 3 c cell) ls iv := by
  obtain ⟨hW, hX, hT, hU, hD, hU2, hI⟩ := h
  refine ⟨hW.cell hc, hX.o fun k => wup_k2 (by omega), fun k h0 h1 => by rw [wup_k2 (by omega)]; exact hT k h0 h1, ⟨fun k h0 h1 => by rw [wup_k2 (by omega)]; exact hU.1 k h0 h1, fun k h0 h1 => by rw [wup_k2 (by omega)]; exact hU.2 k h0 h1⟩, ?_, fun n h0 h1 => ?_, hI⟩
  · have h1 := Ds.up (c := c) hD (Or.inr hf)
    refine Ds.same h1 (wup_k2 (by omega)) fun k _ _ => ?_
    unfold wup fup
    by_cases e : k = c
    · rw [if_pos ⟨rfl, e⟩, if_pos e]
    · rw [if_neg (fun z => e z.2), if_neg e]
  · rw [wup_k2 (by omega)] at h1
    exact Ds.same (hU2 n h0 h1) (wup_k2 (by omega)) fun k _ _ => wup_k2 (by omega)
theorem Iv.go {w : WR} {ls : List (List DC)} {iv : IV} (h : Iv w ls iv) {c cell : Int} : Iv (goW w ls c cell) ls iv := by
  have hg := goZ_m (ls := ls) h.1 (c := c) (cell := cell)
  unfold goW
  split
  · rcases hg with g | g
    · refine (h.keep (by omega)).cell g.2.1 ?_
      have e3 : keepW w 0 3 = w 3 := funext fun k => keepW_o (by omega)
      rw [e3, keepW_o (by omega)]
      exact g.2.2.1.1
    · omega
  · exact h
theorem Iv.goR {w : WR} {ls : List (List DC)} {iv : IV} (h : Iv w ls iv) {c cell : Int} : Iv (goRW w ls c cell) ls iv := by
  unfold goRW
  split
  · exact h.go.thr
  · exact h.ref
theorem Iv.st {w : WR} {ls : List (List DC)} {iv : IV} (h : Iv w ls iv) {c : Int} (hc : 0 ≤ c ∧ c < 6) (hb : 0 ≤ w 7 c ∧ w 7 c ≤ 35) : Iv (stW w ls c) ls iv := by
  have hr := stepZ_r (ls := ls) (h.1.cat hc.1 hc.2).1 hb
  unfold stW
  split
  · exact h
  · rename_i e
    refine h.cell ⟨hr.1, hr.2.1⟩ ?_
    unfold stepZ at e ⊢
    split
    · rename_i g
      exact g.2.1
    · split
      · rename_i g
        exact g.2.1
      · rename_i g1 g2
        rw [if_neg g1, if_neg g2] at e
        exact absurd rfl e
theorem Iv.rsF {ls : List (List DC)} {iv : IV} : ∀ (n : Nat) (c : Int) (w : WR) (k : Int), Iv w ls iv → w 2 8 = n + c → 0 ≤ c → Iv (rushF ls n c w k).2 ls iv
  | 0, _, _, _, h, _, _ => h
  | n + 1, c, w, k, h, hm, h0 => by
    have hm6 := h.1.1
    have hcat := h.1.cat (c := c) h0 (by omega)
    have e : (rushF ls (n + 1) c w k) = if w 7 c = -1 then rushF ls n (c + 1) w k else rushF ls n (c + 1) (stW w ls c) (k + (if stepZ w ls c = w 3 c then 0 else 1)) := rfl
    rw [e]
    by_cases a : w 7 c = -1
    · rw [if_pos a]
      exact Iv.rsF n (c + 1) w k h (by omega) (by omega)
    · rw [if_neg a]
      have hok := stW_ok h.1 (ls := ls) (c := c) (by omega) (by omega)
      exact Iv.rsF n (c + 1) _ _ (h.st (by omega) (by omega)) (by rw [hok.2 _ _ (by decide)]; omega) (by omega)
theorem Iv.rush {w : WR} {ls : List (List DC)} {iv : IV} (h : Iv w ls iv) : Iv (rushW w ls) ls iv := by
  have hm := h.1.1
  unfold rushW
  split
  · exact h
  · exact Iv.rsF _ _ _ _ (h.keep (by omega)) (by rw [keepW_o (by omega)]; omega) (by omega)
theorem Iv.rushR {w : WR} {ls : List (List DC)} {iv : IV} (h : Iv w ls iv) : Iv (rushRW w ls) ls iv := by
  unfold rushRW
  split
  · exact h.rush.thr
  · exact h.ref
theorem Iv.undo {w : WR} {ls : List (List DC)} {iv : IV} (h : Iv w ls iv) : Iv (undoW w) ls iv := by
  unfold undoW
  split
  · exact h.ref
  · rename_i h15
    obtain ⟨hW, hX, hT, hU, hD, hU2, hI⟩ := h
    have hm := hW.1
    have hx := hX.2.1
    have o : ∀ r k, r ≠ 3 → ¬ (r = 0 ∧ k = 15) → undoW1 w r k = w r k := fun r k h1 h2 => by
      unfold undoW1
      rw [wcpN h1, wup_k2 h2]
    have o3 : ∀ k, 0 ≤ k → k < 6 → undoW1 w 3 k = w 13 (6 * (w 0 15 - 1) + k) := fun k k0 k1 => by
      unfold undoW1
      rw [wcpH (by omega), wup_n (by omega), show k - 0 = k by omega]
    have o15 : undoW1 w 0 15 = w 0 15 - 1 := by
      unfold undoW1
      rw [wcpN (by omega), wup_s]
    obtain ⟨h1, h2, h3, h4, h5, h6, h7⟩ := id hW
    refine Iv.thr ⟨⟨by rw [o 2 8 (by omega) (by omega)]; exact h1, by rw [o 2 9 (by omega) (by omega)]; exact h2, by rw [o 2 10 (by omega) (by omega)]; exact h3, h4, fun k k0 k6 => ?_, ?_, fun k k0 k8 => by rw [o 9 k (by omega) (by omega)]; exact h7 k k0 k8⟩, ?_, fun k h0 h1 => by rw [o 19 k (by omega) (by omega)]; exact hT k h0 h1, ⟨fun k h0 h1 => by rw [o 14 k (by omega) (by omega)]; exact hU.1 k h0 h1, fun k h0 h1 => by rw [o 13 k (by omega) (by omega)]; exact hU.2 k h0 h1⟩, Ds.same (hU2 (w 0 15 - 1) (by omega) (by omega)) (o 2 8 (by omega) (by omega)) fun k k0 k1 => o3 k k0 (by omega), fun n h0 h1 => ?_, hI⟩
    · rw [o3 k k0 k6, o 4 k (by omega) (by omega), o 5 k (by omega) (by omega), o 6 k (by omega) (by omega), o 7 k (by omega) (by omega)]
      exact ⟨hU.2 _ (by omega) (by omega), (h5 k k0 k6).2⟩
    · rw [o 8 0 (by omega) (by omega), o 8 1 (by omega) (by omega), o 8 2 (by omega) (by omega), o 8 3 (by omega) (by omega), o 8 4 (by omega) (by omega), o 8 5 (by omega) (by omega), o 8 6 (by omega) (by omega), o 8 7 (by omega) (by omega), o 8 8 (by omega) (by omega)]
      exact h6
    · unfold Wx
      rw [o 0 11 (by omega) (by omega), o15, o 0 26 (by omega) (by omega)]
      exact ⟨hX.1, by omega, hX.2.2⟩
    · rw [o15] at h1
      exact Ds.same (hU2 n h0 (by omega)) (o 2 8 (by omega) (by omega)) fun k _ _ => o 13 _ (by omega) (by omega)
/-! weddings -/
def Wdk (w w' : WR) : Prop := ∀ r k, r ≠ 29 → r ≠ 30 → ¬ (r = 0 ∧ k = 27) → w' r k = w r k
theorem Wdk.rf {w : WR} : Wdk w w := fun _ _ _ _ _ => rfl
theorem Wdk.tr {w w1 w2 : WR} (h : Wdk w w1) (g : Wdk w1 w2) : Wdk w w2 := fun r k h1 h2 h3 => (g r k h1 h2 h3).trans (h r k h1 h2 h3)
theorem Wdk.dr {w : WR} : Wdk w (drW w) := fun r k _ _ h3 => wup_k2 h3
theorem Wdk.up {w : WR} {r : Nat} {k v : Int} (hr : r = 29 ∨ r = 30) : Wdk w (wup w r k v) := fun r' k' h1 h2 _ => wup_k2 (by omega)
theorem Wdk.o1 {w : WR} {ls : List (List DC)} {w' : WR} {c k : Int} : Wdk w' (oth1 w ls w' c k) := by
  unfold oth1
  exact Wdk.dr.tr (Wdk.up (Or.inr rfl))
theorem Wdk.oF {w : WR} {ls : List (List DC)} {who : Int} : ∀ (n : Nat) (c : Int) (w' : WR), Wdk w' (othF w ls who n c w')
  | 0, _, _ => Wdk.rf
  | n + 1, c, w' => by
    have e : othF w ls who (n + 1) c w' = othF w ls who n (c + 1) (if c = who then w' else oth1 w ls w' c 0) := rfl
    rw [e]
    by_cases a : c = who
    · rw [if_pos a]
      exact Wdk.oF n (c + 1) w'
    · rw [if_neg a]
      exact Wdk.o1.tr (Wdk.oF n (c + 1) _)
theorem Wdk.one {w : WR} {ls : List (List DC)} {w' : WR} : Wdk w' (oneW w ls w') := by
  unfold oneW afterW hadW hldW
  refine Wdk.dr.tr (Wdk.tr ?_ (Wdk.oF _ _ _))
  split
  · split
    · exact Wdk.rf
    · exact Wdk.dr
  · split
    · exact (Wdk.up (Or.inl rfl)).tr Wdk.o1
    · exact Wdk.dr.tr ((Wdk.up (Or.inl rfl)).tr Wdk.o1)
theorem Wdk.wds {w : WR} {ls : List (List DC)} : ∀ (n : Nat) (w' : WR), Wdk w' (wdsF w ls n w')
  | 0, _ => Wdk.rf
  | n + 1, w' => Wdk.one.tr (Wdk.wds n _)
theorem Wdk.clr : ∀ (n : Nat) (c : Int) (w' : WR), Wdk w' (clrF n c w')
  | 0, _, _ => Wdk.rf
  | n + 1, c, w' => ((Wdk.up (Or.inl rfl)).tr (Wdk.up (Or.inr rfl))).tr (Wdk.clr n (c + 1) _)
theorem Iv.weds {w : WR} {ls : List (List DC)} {iv : IV} (h : Iv w ls iv) {seed n : Int} : Iv (weddingsW w ls seed n) ls iv := by
  have hm := h.1.1
  unfold weddingsW
  split
  · refine Iv.thr ?_
    unfold wdsS
    have h0 : Iv (wup (wup w 0 27 seed) 0 26 (w 2 8)) ls iv := by
      obtain ⟨hW, hX, hT, hU, hD, hU2, hI⟩ := h.up (r := 0) (k := 27) (v := seed) (by unfold rlv; omega)
      refine ⟨hW.same fun r k hr => wup_k2 (by omega), ?_, fun k h0 h1 => by rw [wup_k2 (by omega)]; exact hT k h0 h1, ⟨fun k h0 h1 => by rw [wup_k2 (by omega)]; exact hU.1 k h0 h1, fun k h0 h1 => by rw [wup_k2 (by omega)]; exact hU.2 k h0 h1⟩, Ds.same hD (wup_k2 (by omega)) fun k _ _ => wup_k2 (by omega), fun n h0 h1 => ?_, hI⟩
      · unfold Wx
        rw [wup_k (by omega), wup_k (by omega), wup_s]
        exact ⟨hX.1, hX.2.1, hm⟩
      · rw [wup_k (by omega)] at h1
        exact Ds.same (hU2 n h0 h1) (wup_k2 (by omega)) fun k _ _ => wup_k2 (by omega)
    have hk := (Wdk.clr 6 0 (wup (wup w 0 27 seed) 0 26 (w 2 8))).tr (Wdk.wds (w := w) (ls := ls) n.toNat _)
    exact h0.same fun r k hr => hk r k (by unfold rlv at hr; omega) (by unfold rlv at hr; omega) (by unfold rlv at hr; omega)
  · exact h.ref
/-! images -/
theorem Iv.image {w : WR} {ls : List (List DC)} {iv : IV} (h : Iv w ls iv) {k : Int} : Iv (imageW w k) ls (imageI iv w ls k) := by
  unfold imageW imageI
  split
  · obtain ⟨hW, hX, hT, hU, hD, hU2, hI⟩ := h
    have : Iv w ls (ivUp iv k.toNat (w, ls)) := ⟨hW, hX, hT, hU, hD, hU2, fun j hj q e => by
      unfold ivUp at e
      split at e
      · cases e
        exact ⟨hW, hD⟩
      · exact hI j hj q e⟩
    exact this.thr
  · exact h.ref
theorem Iv.back {w : WR} {ls : List (List DC)} {iv : IV} (h : Iv w ls iv) {k : Int} : Iv (bckW w iv k) (bckL ls iv k) iv := by
  unfold bckW bckL
  by_cases a : 0 ≤ k ∧ k ≤ 1
  · rw [if_pos a, if_pos a]
    cases e : iv k.toNat with
    | none => exact h.ref
    | some q =>
      obtain ⟨hW, hX, hT, hU, hD, hU2, hI⟩ := h
      obtain ⟨g1, g2⟩ := hI k.toNat (by omega) q e
      have o : ∀ r k, 2 ≤ r → r ≤ 9 → bkW w q.1 r k = q.1 r k := fun r k h1 h2 => if_pos ⟨h1, h2⟩
      have o2 : ∀ r k, r < 2 ∨ 9 < r → bkW w q.1 r k = w r k := fun r k h1 => if_neg (by omega)
      show Iv (wup (wup (bkW w q.1) 0 15 0) 0 0 0) q.2 iv
      refine Iv.thr (Iv.mk0 (g1.same fun r k hr => by rw [wup_k2 (by omega), o r k (by omega) (by omega)]) ?_ ?_ (fun k h0 h1 => ?_) ⟨fun k h0 h1 => ?_, fun k h0 h1 => ?_⟩ (Ds.same g2 (by rw [wup_k2 (by omega), o 2 8 (by omega) (by omega)]) fun k _ _ => by rw [wup_k2 (by omega), o 3 k (by omega) (by omega)]) hI wup_s)
      · rw [wup_k (by omega), o2 0 11 (by omega)]; exact hX.1
      · rw [wup_k (by omega), o2 0 26 (by omega)]; exact hX.2.2
      · rw [wup_n (by omega), o2 19 k (by omega)]; exact hT k h0 h1
      · skip
        rw [wup_n (by omega), o2 14 k (by omega)]; exact hU.1 k h0 h1
      · skip
        rw [wup_n (by omega), o2 13 k (by omega)]; exact hU.2 k h0 h1
  · rw [if_neg a, if_neg a]
    exact h.ref
/-! texts -/
theorem Iv.law {w : WR} {ls : List (List DC)} {iv : IV} (h : Iv w ls iv) : Iv (lawXW w ls) (lawXL w ls) iv := by
  have h11 := h.o11 (v := 0) (by omega)
  have hl := h.1.2.2.2.1
  unfold lawXW lawXL
  by_cases a : ls.length = 6
  · rw [if_pos a, if_pos a]
    exact h11.ref
  · rw [if_neg a, if_neg a]
    cases lawTxt w with
    | inl q => exact (h11.up (by unfold rlv; omega)).ref
    | inr law =>
      have h12 := h11.up (r := 0) (k := 12) (v := -1) (by unfold rlv; omega)
      obtain ⟨⟨h1, h2, h3, h4, h5⟩, r⟩ := h12
      exact Iv.thr ⟨⟨h1, h2, ⟨h3.1, by rw [List.length_append]; show _ < ((ls.length + 1 : Nat) : Int); omega⟩, by rw [List.length_append]; show ls.length + 1 ≤ 6; omega, h5⟩, r⟩
/-- the run leaves this -/
def Ork (w w' : WR) : Prop := ∀ r k, r ≠ 3 → r ≠ 7 → r ≠ 13 → r ≠ 14 → ¬ (r = 0 ∧ k = 15) → w' r k = w r k
theorem keep_ork {w : WR} {what : Int} : Ork w (keepW w what) := fun r k h3 h7 h13 h14 h15 => by
  unfold keepW
  split
  · rw [kp_o ⟨h13, h14⟩ h15]
    unfold shW
    rw [wup_k2 h15, wcpN h14, wcpN h13]
  · exact kp_o ⟨h13, h14⟩ h15
theorem Iv.run {w : WR} {ls : List (List DC)} {iv : IV} (h : Iv w ls iv) {c : OC} {v : Nat → Int} : Iv (runW w ls c v) ls iv ∧ Ork w (runW w ls c v) := by
  have hm := h.1.1
  unfold runW
  cases c.2.1 with
  | none =>
    refine ⟨h.rush, fun r k h3 h7 h13 h14 h15 => ?_⟩
    show rushW w ls r k = w r k
    unfold rushW
    split
    · rfl
    · obtain ⟨-, q2, -, -⟩ := rushF_ok (ls := ls) hm (w 2 8).toNat 0 (keepW w 1) 0 h.1.keep (keepW_o (by decide)) (by omega) (by omega) (by omega)
      exact (q2 r k h3).trans (keep_ork r k h3 h7 h13 h14 h15)
  | some q =>
    show Iv (if c.1 = 0 then goW w ls (toldO q.1 v) (toldO q.2 v) else belW w (toldO q.1 v) (toldO q.2 v)) ls iv ∧ Ork w (if c.1 = 0 then goW w ls (toldO q.1 v) (toldO q.2 v) else belW w (toldO q.1 v) (toldO q.2 v))
    split
    · refine ⟨h.go, fun r k h3 h7 h13 h14 h15 => ?_⟩
      unfold goW
      split
      · rw [wup_n h3]
        exact keep_ork r k h3 h7 h13 h14 h15
      · rfl
    · refine ⟨h.bel, fun r k h3 h7 h13 h14 h15 => ?_⟩
      unfold belW
      split
      · exact wup_n h7
      · rfl
theorem Ork.rf {w : WR} : Ork w w := fun _ _ _ _ _ _ _ => rfl
theorem Ork.tr {w w1 w2 : WR} (h : Ork w w1) (g : Ork w1 w2) : Ork w w2 := fun r k h3 h7 h13 h14 h15 => (g r k h3 h7 h13 h14 h15).trans (h r k h3 h7 h13 h14 h15)
theorem tms_ok {ls : List (List DC)} {iv : IV} {c : OC} : ∀ (t : Nat) (q : WR × Int × Int), Iv q.1 ls iv → (∀ w', tmsF ls c t q = .inl w' → Ork q.1 w') ∧ ∀ q', tmsF ls c t q = .inr q' → Iv q'.1 ls iv ∧ Ork q.1 q'.1
  | 0, q, h => ⟨(fun w' e => by rw [tmsF] at e; cases e), fun q' e => (by rw [tmsF] at e; cases e; exact ⟨h, Ork.rf⟩)⟩
  | t + 1, q, h => by
    have hr := h.run (c := c) (v := vOrd q.1 q.2.1 q.2.2)
    rw [tmsF]
    by_cases a : nowP c.2.2.2 (vOrd q.1 q.2.1 q.2.2)
    · rw [if_pos a]
      by_cases b : runV q.1 ls c (vOrd q.1 q.2.1 q.2.2) < 0
      · rw [if_pos b]
        exact ⟨(fun w' e => by cases e; exact hr.2), fun q' e => by cases e⟩
      · rw [if_neg b]
        obtain ⟨i1, i2⟩ := tms_ok t (runW q.1 ls c (vOrd q.1 q.2.1 q.2.2), q.2.1 + 1, if c.1 = 1 then runV q.1 ls c (vOrd q.1 q.2.1 q.2.2) else q.2.2) hr.1
        exact ⟨fun w' e => hr.2.tr (i1 w' e), fun q' e => ⟨(i2 q' e).1, hr.2.tr (i2 q' e).2⟩⟩
    · rw [if_neg a]
      exact tms_ok t q h
theorem ords_ok {ls : List (List DC)} {iv : IV} : ∀ (cs : List OC) (k : Int) (q : WR × Int × Int), Iv q.1 ls iv → (∀ x, ordsF ls cs k q = .inl x → Ork q.1 x.1) ∧ ∀ q', ordsF ls cs k q = .inr q' → Iv q'.1 ls iv ∧ Ork q.1 q'.1
  | [], _, q, h => ⟨(fun x e => by rw [ordsF] at e; cases e), fun q' e => (by rw [ordsF] at e; cases e; exact ⟨h, Ork.rf⟩)⟩
  | c :: cs, k, q, h => by
    obtain ⟨t1, t2⟩ := tms_ok (iv := iv) (c := c) c.2.2.1.toNat q h
    rw [ordsF]
    cases e : tmsF ls c c.2.2.1.toNat q with
    | inl w' => exact ⟨(fun x ex => by cases ex; exact t1 w' e), fun q' eq => by cases eq⟩
    | inr q1 =>
      obtain ⟨i1, i2⟩ := t2 q1 e
      obtain ⟨j1, j2⟩ := ords_ok cs (k + 1) q1 i1
      exact ⟨fun x ex => i2.tr (j1 x ex), fun q' eq => ⟨(j2 q' eq).1, i2.tr (j2 q' eq).2⟩⟩
theorem Iv.orders {w : WR} {ls : List (List DC)} {iv : IV} (h : Iv w ls iv) : Iv (ordersW w ls) ls iv := by
  have h0 : Iv (or0 w) ls iv := (h.o11 (v := 0) (by omega)).up (by unfold rlv; omega)
  unfold ordersW
  cases ordTxt w with
  | inl q => exact (h0.up (by unfold rlv; omega)).ref
  | inr cs =>
    have h1 : Iv (wup (or0 w) 0 12 (-1)) ls iv := h0.up (by unfold rlv; omega)
    have h2 : Iv (ahW (wup (or0 w) 0 12 (-1))) ls iv := h1.same fun r k hr => ah_ge.2.2.2.2 (by unfold rlv at hr; omega)
    have hk := ords_ok (ls := ls) (iv := iv) cs 0 (ahW (wup (or0 w) 0 12 (-1)), 0, -1) h2
    show Iv (ordEndW (w 0 15) (orR w ls cs)) ls iv
    unfold orR
    cases e : ordsF ls cs 0 (ahW (wup (or0 w) 0 12 (-1)), 0, -1) with
    | inl x =>
      have ho := hk.1 x e
      have ho : Ork (ahW (wup (or0 w) 0 12 (-1))) x.1 := ho
      have hu : or0 w 0 15 = w 0 15 := by unfold or0; rw [wup_k (by omega), wup_k (by omega)]
      show Iv (badW x.1 (w 0 15) x.2) ls iv
      unfold badW
      refine Iv.ref (Iv.up ?_ (by unfold rlv; omega))
      have ag : ∀ {r : Nat} {k : Int}, ahW (wup (or0 w) 0 12 (-1)) r k = ahW (wup (or0 w) 0 12 (-1)) r k := rfl
      refine h1.same fun r k hr => ?_
      by_cases c3 : r = 3
      · subst c3
        rw [pb_3 (by unfold rlv at hr; omega), ho 17 k (by omega) (by omega) (by omega) (by omega) (by omega), (ah_ge (r := 0)).1 (by unfold rlv at hr; omega)]
      · by_cases c7 : r = 7
        · subst c7
          rw [pb_7 (by unfold rlv at hr; omega), ho 18 k (by omega) (by omega) (by omega) (by omega) (by omega), (ah_ge (r := 0)).2.1 (by unfold rlv at hr; omega)]
        · by_cases c13 : r = 13
          · subst c13
            rw [pb_13 (by unfold rlv at hr; omega), ho 15 k (by omega) (by omega) (by omega) (by omega) (by omega), (ah_ge (r := 0)).2.2.1 (by unfold rlv at hr; omega)]
          · by_cases c14 : r = 14
            · subst c14
              rw [pb_14 (by unfold rlv at hr; omega), ho 16 k (by omega) (by omega) (by omega) (by omega) (by omega), (ah_ge (r := 0)).2.2.2.1 (by unfold rlv at hr; omega)]
            · by_cases c0 : r = 0 ∧ k = 15
              · rw [c0.1, c0.2]
                have e1 : pbW x.1 (w 0 15) 0 15 = w 0 15 := by unfold pbW; rw [wup_s]
                rw [e1, wup_k (by omega), hu]
              · rw [pb_o ⟨c3, c7, c13, c14⟩ c0, ho r k c3 c7 c13 c14 c0]
                exact ah_ge.2.2.2.2 (by unfold rlv at hr; omega)
    | inr q =>
      exact ((hk.2 q e).1).thr
