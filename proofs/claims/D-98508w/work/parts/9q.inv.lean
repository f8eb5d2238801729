set_option maxRecDepth 100000
/-! ===== what every call keeps ===== -/
def Udi (w : WR) : Prop := ∀ n, 0 ≤ n → n < w 0 15 → Ds (fun c => w 13 (6 * n + c)) (w 2 8)
def Ivo (iv : IV) : Prop := ∀ j, j < 2 → ∀ q, iv j = some q → Wf q.1 q.2 ∧ Wd2 q.1
def Iv (w : WR) (ls : List (List DC)) (iv : IV) : Prop := Wf w ls ∧ Wx w ∧ tapeOk w ∧ Wu w ∧ Wd2 w ∧ Udi w ∧ Ivo iv
def rlv (r : Nat) (k : Int) : Prop := (r = 2 ∧ 8 ≤ k ∧ k ≤ 10) ∨ (3 ≤ r ∧ r ≤ 7 ∧ 0 ≤ k ∧ k < 6) ∨ (r = 8 ∧ 0 ≤ k ∧ k < 9) ∨ (r = 9 ∧ 0 ≤ k ∧ k < 8) ∨ (r = 13 ∧ 0 ≤ k ∧ k < 96) ∨ (r = 14 ∧ 0 ≤ k ∧ k < 16) ∨ (r = 19 ∧ 0 ≤ k ∧ k < 400) ∨ (r = 0 ∧ (k = 11 ∨ k = 15 ∨ k = 26))
theorem Ds.same {p p' : Int → Int} {m m' : Int} (h : Ds p m) (hm : m' = m) (e : ∀ k, 0 ≤ k → k < m → p' k = p k) : Ds p' m' := fun i j i0 i1 j0 j1 z => by
  subst hm
  rw [e i i0 i1, e j j0 j1] at z
  exact h i j i0 i1 j0 j1 z
theorem Iv.same {w w' : WR} {ls : List (List DC)} {iv : IV} (h : Iv w ls iv) (e : ∀ r k, rlv r k → w' r k = w r k) : Iv w' ls iv := by
  obtain ⟨hW, hX, hT, hU, hD, hU2, hI⟩ := h
  have hm := hW.1
  have e8 := e 2 8 (by unfold rlv; omega)
  have e15 := e 0 15 (by unfold rlv; omega)
  refine ⟨?_, ?_, fun k h0 h1 => ?_, ⟨fun k h0 h1 => ?_, fun k h0 h1 => ?_⟩, ?_, fun n h0 h1 => ?_, hI⟩
  · obtain ⟨h1, h2, h3, h4, h5, h6, h7⟩ := hW
    refine ⟨by rw [e8]; exact h1, by rw [e 2 9 (by unfold rlv; omega)]; exact h2, by rw [e 2 10 (by unfold rlv; omega)]; exact h3, h4, fun k k0 k6 => ?_, ?_, fun k k0 k8 => ?_⟩
    · rw [e 3 k (by unfold rlv; omega), e 4 k (by unfold rlv; omega), e 5 k (by unfold rlv; omega), e 6 k (by unfold rlv; omega), e 7 k (by unfold rlv; omega)]
      exact h5 k k0 k6
    · rw [e 8 0 (by unfold rlv; omega), e 8 1 (by unfold rlv; omega), e 8 2 (by unfold rlv; omega), e 8 3 (by unfold rlv; omega), e 8 4 (by unfold rlv; omega), e 8 5 (by unfold rlv; omega), e 8 6 (by unfold rlv; omega), e 8 7 (by unfold rlv; omega), e 8 8 (by unfold rlv; omega)]
      exact h6
    · rw [e 9 k (by unfold rlv; omega)]
      exact h7 k k0 k8
  · unfold Wx
    rw [e 0 11 (by unfold rlv; omega), e15, e 0 26 (by unfold rlv; omega)]
    exact hX
  · rw [e 19 k (by unfold rlv; omega)]
    exact hT k h0 h1
  · rw [e 14 k (by unfold rlv; omega)]
    exact hU.1 k h0 h1
  · rw [e 13 k (by unfold rlv; omega)]
    exact hU.2 k h0 h1
  · exact Ds.same hD e8 fun k k0 k1 => e 3 k (by unfold rlv; omega)
  · rw [e15] at h1
    have hx := hX.2.1
    exact Ds.same (hU2 n h0 h1) e8 fun k k0 k1 => e 13 _ (by unfold rlv; omega)
theorem Iv.up {w : WR} {ls : List (List DC)} {iv : IV} (h : Iv w ls iv) {r : Nat} {k v : Int} (hr : ¬ rlv r k) : Iv (wup w r k v) ls iv := h.same fun r' k' h' => wup_k2 fun z => hr (by rw [← z.1, ← z.2]; exact h')
theorem Iv.ref {w : WR} {ls : List (List DC)} {iv : IV} (h : Iv w ls iv) {v : Int} : Iv (refW w v) ls iv := (h.up (by unfold rlv; omega)).up (by unfold rlv; omega)
theorem Iv.thr {w : WR} {ls : List (List DC)} {iv : IV} (h : Iv w ls iv) {v : Int} : Iv (wup w 0 0 v) ls iv := h.up (by unfold rlv; omega)
/-- undo cleared -/
theorem Iv.mk0 {w : WR} {ls : List (List DC)} {iv : IV} (hW : Wf w ls) (h11 : 0 ≤ w 0 11 ∧ w 0 11 ≤ 400) (h26 : 0 ≤ w 0 26 ∧ w 0 26 ≤ 6) (hT : tapeOk w) (hU : Wu w) (hD : Wd2 w) (hI : Ivo iv) (h15 : w 0 15 = 0) : Iv w ls iv := ⟨hW, ⟨h11, by omega, h26⟩, hT, hU, hD, fun n h0 h1 => by omega, hI⟩
/-- a change of one register of rows 2, 4 .. 9 -/
theorem Iv.wf {w : WR} {ls : List (List DC)} {iv : IV} (h : Iv w ls iv) {r : Nat} {k v : Int} (hr : r = 4 ∨ r = 5 ∨ r = 6 ∨ r = 7 ∨ r = 8 ∨ r = 9 ∨ (r = 2 ∧ k ≠ 8)) (hW : Wf (wup w r k v) ls) : Iv (wup w r k v) ls iv := by
  obtain ⟨-, hX, hT, hU, hD, hU2, hI⟩ := h
  have e0 : ∀ k', wup w r k v 0 k' = w 0 k' := fun k' => wup_k2 (by omega)
  have e8 : wup w r k v 2 8 = w 2 8 := wup_k2 (by omega)
  refine ⟨hW, hX.o e0, fun k' h0 h1 => by rw [wup_k2 (by omega)]; exact hT k' h0 h1, ⟨fun k' h0 h1 => by rw [wup_k2 (by omega)]; exact hU.1 k' h0 h1, fun k' h0 h1 => by rw [wup_k2 (by omega)]; exact hU.2 k' h0 h1⟩, Ds.same hD e8 fun k' _ _ => wup_k2 (by omega), fun n h0 h1 => ?_, hI⟩
  rw [e0] at h1
  exact Ds.same (hU2 n h0 h1) e8 fun k' _ _ => wup_k2 (by omega)
/-! one after the other -/
theorem Wf.rw {w : WR} {ls : List (List DC)} (h : Wf w ls) {r : Nat} {k v : Int} (hr : (r = 4 ∧ 0 ≤ v ∧ v ≤ 3) ∨ (r = 5 ∧ -9 ≤ v ∧ v ≤ 9) ∨ (r = 6 ∧ 0 ≤ v ∧ v ≤ 9) ∨ (r = 7 ∧ -1 ≤ v ∧ v ≤ 35) ∨ (r = 8 ∧ isTermP k v) ∨ (r = 9 ∧ 0 ≤ v ∧ v ≤ 35) ∨ (r = 2 ∧ ((k = 9 ∧ 0 ≤ v ∧ v ≤ 8) ∨ (k = 10 ∧ -1 ≤ v ∧ v < ls.length)))) : Wf (wup w r k v) ls := by
  obtain ⟨h1, h2, h3, h4, h5, h6, h7⟩ := h
  have key : ∀ r' k' (P : Int → Prop), P (w r' k') → (r' = r → k' = k → P v) → P (wup w r k v r' k') := fun r' k' P p q => by
    unfold wup
    split
    · rename_i z
      exact q z.1 z.2
    · exact p
  unfold isTermP at hr
  refine ⟨key 2 8 (fun z => 0 ≤ z ∧ z ≤ 6) h1 fun _ _ => by omega, key 2 9 (fun z => 0 ≤ z ∧ z ≤ 8) h2 fun _ _ => by omega, key 2 10 (fun z => -1 ≤ z ∧ z < ls.length) h3 fun _ _ => by omega, h4, fun k' k0 k6 => ⟨key 3 k' (fun z => 0 ≤ z ∧ z ≤ 35) (h5 k' k0 k6).1 fun _ _ => by omega, key 4 k' (fun z => 0 ≤ z ∧ z ≤ 3) (h5 k' k0 k6).2.1 fun _ _ => by omega, key 5 k' (fun z => -9 ≤ z ∧ z ≤ 9) (h5 k' k0 k6).2.2.1 fun _ _ => by omega, key 6 k' (fun z => 0 ≤ z ∧ z ≤ 9) (h5 k' k0 k6).2.2.2.1 fun _ _ => by omega, key 7 k' (fun z => -1 ≤ z ∧ z ≤ 35) (h5 k' k0 k6).2.2.2.2 fun _ _ => by omega⟩, ⟨key 8 0 (fun z => 1 ≤ z ∧ z ≤ 5) h6.1 fun _ _ => by omega, key 8 1 (fun z => -2 ≤ z ∧ z ≤ 2) h6.2.1 fun _ _ => by omega, key 8 2 (fun z => 1 ≤ z ∧ z ≤ 9) h6.2.2.1 fun _ _ => by omega, key 8 3 (fun z => 2 ≤ z ∧ z ≤ 3) h6.2.2.2.1 fun _ _ => by omega, key 8 4 (fun z => 0 ≤ z ∧ z ≤ 5) h6.2.2.2.2.1 fun _ _ => by omega, key 8 5 (fun z => 0 ≤ z ∧ z ≤ 2) h6.2.2.2.2.2.1 fun _ _ => by omega, key 8 6 (fun z => -1 ≤ z ∧ z ≤ 35) h6.2.2.2.2.2.2.1 fun _ _ => by omega, key 8 7 (fun z => 1 ≤ z ∧ z ≤ 9) h6.2.2.2.2.2.2.2.1 fun _ _ => by omega, key 8 8 (fun z => 0 ≤ z ∧ z ≤ 9) h6.2.2.2.2.2.2.2.2 fun _ _ => by omega⟩, fun k' k0 k8 => key 9 k' (fun z => 0 ≤ z ∧ z ≤ 35) (h7 k' k0 k8) fun _ _ => by omega⟩
theorem Iv.put {w : WR} {ls : List (List DC)} {iv : IV} (h : Iv w ls iv) {c what v : Int} : Iv (putW w c what v) ls iv := by
  unfold putW
  by_cases a : isPutP what v
  · rw [if_pos a]
    by_cases b : isC w c
    · rw [if_pos b]
      unfold isPutP at a
      exact (h.wf (by omega) (h.1.rw (by omega))).thr
    · rw [if_neg b]
      exact h.ref
  · rw [if_neg a]
    exact h.ref
theorem Iv.term {w : WR} {ls : List (List DC)} {iv : IV} (h : Iv w ls iv) {what v : Int} : Iv (termW w what v) ls iv := by
  unfold termW
  by_cases a : isTermP what v
  · rw [if_pos a]
    exact (h.wf (by omega) (h.1.rw (Or.inr (Or.inr (Or.inr (Or.inr (Or.inl ⟨rfl, a⟩))))))).thr
  · rw [if_neg a]
    exact h.ref
theorem Iv.film {w : WR} {ls : List (List DC)} {iv : IV} (h : Iv w ls iv) {c : Int} : Iv (filmW w c) ls iv := by
  have h9 := h.1.2.1
  unfold filmW
  split
  · split
    · exact h.ref
    · have h1 := h.wf (r := 9) (k := w 2 9) (v := c) (by omega) (h.1.rw (by omega))
      exact (h1.wf (r := 2) (k := 9) (v := w 2 9 + 1) (by omega) (h1.1.rw (by omega))).thr
  · exact h.ref
theorem Iv.burn {w : WR} {ls : List (List DC)} {iv : IV} (h : Iv w ls iv) : Iv (wup w 2 9 0) ls iv := h.wf (by omega) (h.1.rw (by omega))
theorem Iv.force {w : WR} {ls : List (List DC)} {iv : IV} (h : Iv w ls iv) {l : Int} : Iv (forceW w ls l) ls iv := by
  unfold forceW
  split
  · exact (h.wf (r := 2) (k := 10) (v := l) (by omega) (h.1.rw (by omega))).thr
  · exact h.ref
theorem Iv.o11 {w : WR} {ls : List (List DC)} {iv : IV} (h : Iv w ls iv) {v : Int} (hv : 0 ≤ v ∧ v ≤ 400) : Iv (wup w 0 11 v) ls iv := by
  obtain ⟨hW, hX, hT, hU, hD, hU2, hI⟩ := h
  refine ⟨hW.same fun r k hr => wup_k2 (by omega), ?_, fun k h0 h1 => by rw [wup_k2 (by omega)]; exact hT k h0 h1, ⟨fun k h0 h1 => by rw [wup_k2 (by omega)]; exact hU.1 k h0 h1, fun k h0 h1 => by rw [wup_k2 (by omega)]; exact hU.2 k h0 h1⟩, Ds.same hD (wup_k2 (by omega)) fun k _ _ => wup_k2 (by omega), fun n h0 h1 => ?_, hI⟩
  · unfold Wx
    rw [wup_s, wup_k (by omega), wup_k (by omega)]
    exact ⟨hv, hX.2⟩
  · rw [wup_k (by omega)] at h1
    exact Ds.same (hU2 n h0 h1) (wup_k2 (by omega)) fun k _ _ => wup_k2 (by omega)
theorem Iv.end_ {w : WR} {ls : List (List DC)} {iv : IV} (h : Iv w ls iv) {n : Int} : Iv (endW w n) ls iv := by
  have h11 := h.2.1.1
  unfold endW
  split
  · exact h.o11 (by omega)
  · exact h
theorem Iv.bel {w : WR} {ls : List (List DC)} {iv : IV} (h : Iv w ls iv) {c cell : Int} : Iv (belW w c cell) ls iv := by
  have := belZ_m (w := w) (c := c) (cell := cell)
  unfold belW
  split
  · exact h.wf (r := 7) (by omega) (h.1.rw (by omega))
  · exact h
theorem Iv.believe {w : WR} {ls : List (List DC)} {iv : IV} (h : Iv w ls iv) {c cell : Int} : Iv (believeW w c cell) ls iv := by
  have h1 := h.bel (c := c) (cell := cell)
  unfold believeW
  unfold belW at h1
  split
  · rename_i a
    rw [if_pos a] at h1
    exact h1.thr
  · exact h.ref
theorem Iv.four {w : WR} {ls : List (List DC)} {iv : IV} (h : Iv w ls iv) {v : Int} {k : Nat} (h11 : w 0 11 + 1 ≤ 400) : Iv (four1 w v k) ls iv := by
  have hb := b8_r (v := v) (k := k)
  unfold four1
  have h1 : Iv (wup w 19 (w 0 11) (b8 v k)) ls iv := by
    obtain ⟨hW, hX, hT, hU, hD, hU2, hI⟩ := h
    refine ⟨hW.same fun r k hr => wup_k2 (by omega), hX.o fun k => wup_k2 (by omega), fun k h0 h1 => ?_, ⟨fun k h0 h1 => by rw [wup_k2 (by omega)]; exact hU.1 k h0 h1, fun k h0 h1 => by rw [wup_k2 (by omega)]; exact hU.2 k h0 h1⟩, Ds.same hD (wup_k2 (by omega)) fun k _ _ => wup_k2 (by omega), fun n h0 h1 => ?_, hI⟩
    · by_cases e : k = w 0 11
      · rw [e, wup_s]; exact hb
      · rw [wup_k e]; exact hT k h0 h1
    · rw [wup_k2 (by omega)] at h1
      exact Ds.same (hU2 n h0 h1) (wup_k2 (by omega)) fun k _ _ => wup_k2 (by omega)
  have := h.2.1.1
  exact h1.o11 (by omega)
theorem Iv.four4 {w : WR} {ls : List (List DC)} {iv : IV} (h : Iv w ls iv) {v : Int} (h11 : w 0 11 + 4 ≤ 400) : Iv (fourW w v) ls iv := by
  unfold fourW
  have h1 := h.four (v := v) (k := 24) (by omega)
  have h2 := h1.four (v := v) (k := 16) (by rw [four1_11]; omega)
  have h3 := h2.four (v := v) (k := 8) (by rw [four1_11, four1_11]; omega)
  exact h3.four (by rw [four1_11, four1_11, four1_11]; omega)
theorem Iv.feed {w : WR} {ls : List (List DC)} {iv : IV} (h : Iv w ls iv) {a b c d e : Int} : Iv (feedW w a b c d e) ls iv := by
  unfold feedW
  split
  · have h1 := h.four4 (v := a) (by omega)
    have h2 := h1.four4 (v := b) (by rw [fourW_11]; omega)
    have h3 := h2.four4 (v := c) (by rw [fourW_11, fourW_11]; omega)
    have h4 := h3.four4 (v := d) (by rw [fourW_11, fourW_11, fourW_11]; omega)
    exact h4.four4 (by rw [fourW_11, fourW_11, fourW_11, fourW_11]; omega)
  · exact h
/-! catchers come -/
theorem comes_c {w : WR} {ls : List (List DC)} {a b c d : Int} (h : comesZ w ls a b c d = 0) : (0 ≤ a ∧ a ≤ 35) ∧ whoZ (w 3) (w 2 8) a = -1 ∧ w 2 8 ≠ 6 := by
  unfold comesZ at h
  split at h
  · omega
  · rename_i h1
    have h1 := Classical.not_not.mp h1
    split at h
    · omega
    · rename_i h2
      split at h
      · omega
      · refine ⟨h1.1, ?_, by assumption⟩
        by_cases z : whoZ (w 3) (w 2 8) a = -1
        · exact z
        · exact absurd (Or.inl z) h2
theorem comes_d {w : WR} {ls : List (List DC)} (hW : Wf w ls) (hD : Wd2 w) {a b c d : Int} (h : comesZ w ls a b c d = 0) : Wd2 (comesW w a b c d) := by
  obtain ⟨-, h2, -⟩ := comes_c h
  have hm := hW.1
  have hno := (whoF_n (f := w 3) (z := a) (w 2 8).toNat 0 (by omega)).mp h2
  have e8 : comesW w a b c d 2 8 = w 2 8 + 1 := by unfold comesW; rw [wup_s]
  have e3 : ∀ k, comesW w a b c d 3 k = if k = w 2 8 then a else w 3 k := fun k => by
    unfold comesW
    rw [wup_n (by omega), wup_n (by omega), wup_n (by omega), wup_n (by omega), wup_n (by omega)]
    by_cases e : k = w 2 8
    · rw [e, wup_s, if_pos rfl]
    · rw [wup_k e, if_neg e]
  intro i j i0 i1 j0 j1 z
  rw [e8] at i1 j1
  have z : comesW w a b c d 3 i = comesW w a b c d 3 j := z
  rw [e3, e3] at z
  by_cases ei : i = w 2 8
  · by_cases ej : j = w 2 8
    · omega
    · rw [if_pos ei, if_neg ej] at z
      exact absurd z.symm (hno j (by omega) (by omega))
  · by_cases ej : j = w 2 8
    · rw [if_neg ei, if_pos ej] at z
      exact absurd z (hno i (by omega) (by omega))
    · rw [if_neg ei, if_neg ej] at z
      exact hD i j i0 (by omega) j0 (by omega) z
theorem comesW_o {w : WR} {a b c d k : Int} {r : Nat} (h : r = 0 ∨ 8 ≤ r) : comesW w a b c d r k = w r k := by
  unfold comesW
  rw [wup_n (by omega), wup_n (by omega), wup_n (by omega), wup_n (by omega), wup_n (by omega), wup_n (by omega)]
theorem Iv.cat {w : WR} {ls : List (List DC)} {iv : IV} (h : Iv w ls iv) {a b c d : Int} : Iv (catW w ls a b c d) ls iv := by
  unfold catW
  split
  · rename_i hz
    obtain ⟨hW, hX, hT, hU, hD, hU2, hI⟩ := h
    have o : ∀ r k, (r = 0 ∨ 8 ≤ r) → comesW w a b c d r k = w r k := fun r k h => comesW_o h
    refine Iv.thr (Iv.mk0 ((hW.comes hz).same fun r k hr => wup_k2 (by omega)) ?_ ?_ (fun k h0 h1 => ?_) ⟨fun k h0 h1 => ?_, fun k h0 h1 => ?_⟩ (Ds.same (comes_d hW hD hz) (wup_k2 (by omega)) fun k _ _ => wup_k2 (by omega)) hI wup_s)
    · rw [wup_k (by omega), o 0 11 (by omega)]; exact hX.1
    · rw [wup_k (by omega), o 0 26 (by omega)]; exact hX.2.2
    · rw [wup_n (by omega), o 19 k (by omega)]; exact hT k h0 h1
    · dsimp only
      rw [wup_n (by omega), o 14 k (by omega)]; exact hU.1 k h0 h1
    · dsimp only
      rw [wup_n (by omega), o 13 k (by omega)]; exact hU.2 k h0 h1
  · exact h.ref
/-! rows -/
theorem rowF_ok {ls : List (List DC)} : ∀ (q : Nat) (i : Int) (w : WR) (n : Int), Wf w ls → Wd2 w → Wf (rowF ls q i w n).2 ls ∧ Wd2 (rowF ls q i w n).2 ∧ ∀ r k, (r = 0 ∧ k ≠ 13) ∨ 8 ≤ r → (rowF ls q i w n).2 r k = w r k
  | 0, _, _, _, hW, hD => ⟨hW, hD, fun _ _ _ => rfl⟩
  | q + 1, i, w, n, hW, hD => by
    have hD1 : Wd2 (rowW w ls i) := by
      unfold rowW
      by_cases a : rowP w ls i
      · rw [if_pos a]
        exact Ds.same (comes_d hW hD a.2) (wup_k2 (by omega)) fun k _ _ => wup_k2 (by omega)
      · rw [if_neg a]
        exact Ds.same hD (wup_k2 (by omega)) fun k _ _ => wup_k2 (by omega)
    have ho : ∀ r k, (r = 0 ∧ k ≠ 13) ∨ 8 ≤ r → rowW w ls i r k = w r k := fun r k hr => by
      unfold rowW
      by_cases a : rowP w ls i
      · rw [if_pos a, wup_k2 (by omega), comesW_o (by omega)]
      · rw [if_neg a, wup_k2 (by omega)]
    obtain ⟨h1, h2, h3⟩ := rowF_ok q (i + 4) (rowW w ls i) (n + bZ (rowP w ls i)) hW.row hD1
    exact ⟨h1, h2, fun r k hr => (h3 r k hr).trans (ho r k hr)⟩
theorem Iv.rowC {w : WR} {ls : List (List DC)} {iv : IV} (h : Iv w ls iv) : Iv (rowRW w ls) ls iv := by
  unfold rowRW
  split
  · exact (h.o11 (by omega)).ref
  · obtain ⟨hW, hX, hT, hU, hD, hU2, hI⟩ := h
    have e : ∀ r k, ¬ (r = 0 ∧ (k = 11 ∨ k = 13)) → rowsW w r k = w r k := fun r k hr => by
      unfold rowsW
      rw [wup_k2 (by omega), wup_k2 (by omega)]
    have hW1 : Wf (rowsW w) ls := hW.same fun r k hr => e r k (by omega)
    have hD1 : Wd2 (rowsW w) := Ds.same hD (e 2 8 (by omega)) fun k _ _ => e 3 k (by omega)
    obtain ⟨h1, h2, h3⟩ := rowF_ok (w 0 11 / 4).toNat 0 (rowsW w) 0 hW1 hD1
    refine Iv.thr (Iv.mk0 (h1.same fun r k hr => wup_k2 (by omega)) ?_ ?_ (fun k h0 h1 => ?_) ⟨fun k h0 h1 => ?_, fun k h0 h1 => ?_⟩ (Ds.same h2 (wup_k2 (by omega)) fun k _ _ => wup_k2 (by omega)) hI wup_s)
    · rw [wup_k (by omega), h3 0 11 (by omega)]
      unfold rowsW
      rw [wup_k (by omega), wup_s]
      omega
    · rw [wup_k (by omega), h3 0 26 (by omega), e 0 26 (by omega)]; exact hX.2.2
    · rw [wup_n (by omega), h3 19 k (by omega), e 19 k (by omega)]; exact hT k h0 h1
    · dsimp only
      rw [wup_n (by omega), h3 14 k (by omega), e 14 k (by omega)]; exact hU.1 k h0 h1
    · dsimp only
      rw [wup_n (by omega), h3 13 k (by omega), e 13 k (by omega)]; exact hU.2 k h0 h1
